/-! ===== printed: walks ===== -/
set_option maxRecDepth 100000
section SW072
variable {p : Program} {l : Launch} {e : Env} {R : Room} {s : State} {m : MethodId} {args : Array Value} {below : List Frame} {meth : Method} {c : Code} {D : aD} {n0 s0 : Nat} {h0 : aH}
def fX9_brokenWeight_p57 (D : aD) (h : aH) (K11 : (Option Nat) → Int32 → Int32 → Option (Int32)) (a0 : Option Nat) (a1 : Int32) (a2 : Int32) : Option (Int32) :=
  K11 a0 a1 (a2 + 1)
theorem vX9_brokenWeight_p57 {h : aH} {K11 : (Option Nat) → Int32 → Int32 → Option (Int32)} {a0 : Option Nat} {a1 : Int32} {a2 : Int32} {q : Int32} (X : aX p l R s m meth c D n0 s0 yX9_brokenWeight cX9_brokenWeight 5 109 3 (some .int) h0) (k11 : ∀ (a0 : Option Nat) (a1 : Int32) (a2 : Int32) (q : Int32), K11 a0 a1 a2 = some q → V p l e R s m args below meth c D n0 s0 (aEnd D below args s h0 (.inr (some (.int q)), h)) h 11 [(0, false, va_rf a0), (1, false, .int a1), (2, false, .int a2)] []) (hf : fX9_brokenWeight_p57 D h K11 a0 a1 a2 = some q) : V p l e R s m args below meth c D n0 s0 (aEnd D below args s h0 (.inr (some (.int q)), h)) h 57 [(0, false, va_rf a0), (1, false, .int a1), (2, false, .int a2)] [] := by
  have C := X.1
  unfold fX9_brokenWeight_p57 at hf
  refine v_iinc (pc := 57) (j := 2) (v := (a2 + 1)) (lv' := [(2, false, .int (a2 + 1)), (0, false, va_rf a0), (1, false, .int a1)]) C dX9_brokenWeight_57 rfl rfl (by decide) rfl ?_
  refine v_goto (pc := 60) (tgt := 11) C dX9_brokenWeight_60 rfl ?_
  exact V.sub [1, 2, 0] rfl (k11 _ _ _ _ hf)
def fX9_brokenWeight_p11 (D : aD) (h : aH) : Nat → (Option Nat) → Int32 → Int32 → Option (Int32)
  | 0, _, _, _ => none
  | n + 1, a0, a1, a2 =>
  (gR h 8 2 a0).bind fun x1 =>
  (aIs h 15 x1).bind fun _ =>
  (fJ2_size D h x1).bind fun x3 =>
  if x3 ≤ a2 then
  (some a1)
  else
  ((gR h 8 2 a0).bind fun x5 =>
  (aIs h 15 x5).bind fun _ =>
  (fJ2_get D h x5 a2).bind fun x7 =>
  (aCast h [7] x7).bind fun _ =>
  (aIs h 8 a0).bind fun _ =>
  (fX9_isBroken D h a0 x7).bind fun x11 =>
  if x11 = 0 then
  (fX9_brokenWeight_p57 D h (fX9_brokenWeight_p11 D h n) a0 a1 a2)
  else
  ((gR h 8 2 a0).bind fun x13 =>
  (aIs h 15 x13).bind fun _ =>
  (fJ2_get D h x13 a2).bind fun x15 =>
  (aCast h [7] x15).bind fun _ =>
  (gI h 7 5 x15).bind fun x18 =>
  (some ((a1 + x18))).bind fun x19 =>
  fX9_brokenWeight_p57 D h (fX9_brokenWeight_p11 D h n) a0 x19 a2))
theorem vX9_brokenWeight_p11 {h : aH} (X : aX p l R s m meth c D n0 s0 yX9_brokenWeight cX9_brokenWeight 5 109 3 (some .int) h0) : ∀ (n : Nat) (a0 : Option Nat) (a1 : Int32) (a2 : Int32) (q : Int32), fX9_brokenWeight_p11 D h n a0 a1 a2 = some q → V p l e R s m args below meth c D n0 s0 (aEnd D below args s h0 (.inr (some (.int q)), h)) h 11 [(0, false, va_rf a0), (1, false, .int a1), (2, false, .int a2)] [] := by
  have C := X.1
  intro n
  induction n with
  | zero =>
    intro _ _ _ _ hf
    rw [fX9_brokenWeight_p11] at hf
    cases hf
  | succ n ih =>
    intro a0 a1 a2 q hf
    rw [fX9_brokenWeight_p11] at hf
    refine v_iload_n (pc := 11) (j := 2) C dX9_brokenWeight_11 rfl rfl ?_
    refine v_aload_n (pc := 12) (j := 0) C dX9_brokenWeight_12 rfl rfl ?_
    obtain ⟨x1, ex1, hf⟩ := oB hf
    refine v_getF (pc := 13) C lk_X9_22 (gR_eq ex1) dX9_brokenWeight_13 ?_
    obtain ⟨b2, eb2, hf⟩ := oB hf
    obtain ⟨rb2, _, kb2⟩ := aIs_eq eb2
    obtain ⟨x3, ex3, hf⟩ := oB hf
    refine v_call (pc := 16) (d_V (pc := 16) C (As := []) (rest := [.int a2]) rb2 kb2 nt_15 q870 yi_J2_size_java_util_ArrayList yk_J2_size rfl (by decide) (by decide) (Nat.le_trans (aw_i aw_0) (by decide)) rfl (mJ2_size C.st ex3) dX9_brokenWeight_16) ?_
    refine v_icmp_ge (pc := 19) (tgt := 63) C dX9_brokenWeight_19 rfl (fun hc => ?_) (fun hc => ?_)
    · rw [if_pos hc] at hf
      refine v_iload_n (pc := 63) (j := 1) C dX9_brokenWeight_63 rfl rfl ?_
      cases hf
      exact v_ireturn (pc := 64) C X.2.1 X.2.2.1 X.2.2.2.1 rfl dX9_brokenWeight_64
    · rw [if_neg hc] at hf
      refine v_aload_n (pc := 22) (j := 0) C dX9_brokenWeight_22 rfl rfl ?_
      refine v_aload_n (pc := 23) (j := 0) C dX9_brokenWeight_23 rfl rfl ?_
      obtain ⟨x5, ex5, hf⟩ := oB hf
      refine v_getF (pc := 24) C lk_X9_22 (gR_eq ex5) dX9_brokenWeight_24 ?_
      refine v_iload_n (pc := 27) (j := 2) C dX9_brokenWeight_27 rfl rfl ?_
      obtain ⟨b6, eb6, hf⟩ := oB hf
      obtain ⟨rb6, _, kb6⟩ := aIs_eq eb6
      obtain ⟨x7, ex7, hf⟩ := oB hf
      refine v_call (pc := 28) (d_V (pc := 28) C (As := [.int a2]) (rest := [va_rf a0]) rb6 kb6 nt_15 q871 yi_J2_get_java_util_ArrayList yk_J2_get rfl (by decide) (by decide) (Nat.le_trans (aw_r aw_0) (by decide)) rfl (mJ2_get C.st ex7) dX9_brokenWeight_28) ?_
      obtain ⟨_, e9, hf⟩ := oB hf
      refine v_cast (pc := 31) C q1179 ct_FigureSurvey_Finding e9 dX9_brokenWeight_31 ?_
      obtain ⟨b10, eb10, hf⟩ := oB hf
      obtain ⟨rb10, _, kb10⟩ := aIs_eq eb10
      obtain ⟨x11, ex11, hf⟩ := oB hf
      refine v_call (pc := 34) (d_V (pc := 34) C (As := [va_rf x7]) (rest := []) rb10 kb10 nt_8 q1259 yi_X9_isBroken_FigureSurvey_Scene yk_X9_isBroken rfl (by decide) (by decide) (Nat.le_trans aw_0 (by decide)) rfl (mX9_isBroken C.st ex11) dX9_brokenWeight_34) ?_
      refine v_if_eq (pc := 37) (tgt := 57) C dX9_brokenWeight_37 rfl (fun hc => ?_) (fun hc => ?_)
      · rw [if_pos hc] at hf
        exact V.sub [0, 1, 2] rfl (vX9_brokenWeight_p57 X ih hf)
      · rw [if_neg hc] at hf
        refine v_iload_n (pc := 40) (j := 1) C dX9_brokenWeight_40 rfl rfl ?_
        refine v_aload_n (pc := 41) (j := 0) C dX9_brokenWeight_41 rfl rfl ?_
        obtain ⟨x13, ex13, hf⟩ := oB hf
        refine v_getF (pc := 42) C lk_X9_22 (gR_eq ex13) dX9_brokenWeight_42 ?_
        refine v_iload_n (pc := 45) (j := 2) C dX9_brokenWeight_45 rfl rfl ?_
        obtain ⟨b14, eb14, hf⟩ := oB hf
        obtain ⟨rb14, _, kb14⟩ := aIs_eq eb14
        obtain ⟨x15, ex15, hf⟩ := oB hf
        refine v_call (pc := 46) (d_V (pc := 46) C (As := [.int a2]) (rest := [.int a1]) rb14 kb14 nt_15 q871 yi_J2_get_java_util_ArrayList yk_J2_get rfl (by decide) (by decide) (Nat.le_trans (aw_i aw_0) (by decide)) rfl (mJ2_get C.st ex15) dX9_brokenWeight_46) ?_
        obtain ⟨_, e17, hf⟩ := oB hf
        refine v_cast (pc := 49) C q1179 ct_FigureSurvey_Finding e17 dX9_brokenWeight_49 ?_
        obtain ⟨x18, ex18, hf⟩ := oB hf
        refine v_getF (pc := 52) C lk_X9_145 (gI_eq ex18) dX9_brokenWeight_52 ?_
        refine v_iadd (pc := 55) C dX9_brokenWeight_55 ?_
        obtain ⟨x19, ex19, hf⟩ := oB hf
        refine vst (Option.some.inj ex19) (fun z => .int z :: []) ?_
        refine v_istore_n (pc := 56) (lv' := [(1, false, .int x19), (0, false, va_rf a0), (2, false, .int a2)]) C dX9_brokenWeight_56 rfl (by decide) rfl ?_
        exact V.sub [1, 0, 2] rfl (vX9_brokenWeight_p57 X ih hf)
def fX9_brokenWeight (D : aD) (h : aH) (a0 : Option Nat) : Option (Int32) :=
  (gI h 8 6 a0).bind fun x1 =>
  (aIs h 8 a0).bind fun _ =>
  (fX9_weight D h a0 x1).bind fun x3 =>
  fX9_brokenWeight_p11 D h FU a0 x3 (0 : Int32)
theorem vX9_brokenWeight {h : aH} {a0 : Option Nat} {q : Int32} (X : aX p l R s m meth c D n0 s0 yX9_brokenWeight cX9_brokenWeight 5 109 3 (some .int) h0) (hf : fX9_brokenWeight D h a0 = some q) : V p l e R s m args below meth c D n0 s0 (aEnd D below args s h0 (.inr (some (.int q)), h)) h 0 [(0, false, va_rf a0)] [] := by
  have C := X.1
  unfold fX9_brokenWeight at hf
  refine v_aload_n (pc := 0) (j := 0) C dX9_brokenWeight_0 rfl rfl ?_
  refine v_aload_n (pc := 1) (j := 0) C dX9_brokenWeight_1 rfl rfl ?_
  obtain ⟨x1, ex1, hf⟩ := oB hf
  refine v_getF (pc := 2) C lk_X9_130 (gI_eq ex1) dX9_brokenWeight_2 ?_
  obtain ⟨b2, eb2, hf⟩ := oB hf
  obtain ⟨rb2, _, kb2⟩ := aIs_eq eb2
  obtain ⟨x3, ex3, hf⟩ := oB hf
  refine v_call (pc := 5) (d_V (pc := 5) C (As := [.int x1]) (rest := []) rb2 kb2 nt_8 q1289 yi_X9_weight_FigureSurvey_Scene yk_X9_weight rfl (by decide) (by decide) (Nat.le_trans aw_0 (by decide)) rfl (mX9_weight C.st ex3) dX9_brokenWeight_5) ?_
  refine v_istore_n (pc := 8) (lv' := [(1, false, .int x3), (0, false, va_rf a0)]) C dX9_brokenWeight_8 rfl (by decide) rfl ?_
  refine v_iconst (pc := 9) (v := (0 : Int32)) C dX9_brokenWeight_9 rfl ?_
  refine v_istore_n (pc := 10) (lv' := [(2, false, .int (0 : Int32)), (1, false, .int x3), (0, false, va_rf a0)]) C dX9_brokenWeight_10 rfl (by decide) rfl ?_
  exact V.sub [2, 1, 0] rfl (vX9_brokenWeight_p11 X _ _ _ _ _ hf)
theorem mX9_brokenWeight {l : Launch} {D : aD} {h : aH} {a0 : Option Nat} {q : Int32} (hst : l.stackTraces = false) (hf : fX9_brokenWeight D h a0 = some q) : aM l D yX9_brokenWeight cX9_brokenWeight 3 (some .int) 5 109 [va_rf a0] h (.inr (some (.int q)), h) :=
  aM.ofX [(false, va_rf a0)] rfl (ap_r ap_0) (by decide +kernel) hst (al_of (aw_r aw_0) (by decide)) fun p e s m args below meth c X => V.sub (lv' := [(0, false, va_rf a0)]) [0] rfl (vX9_brokenWeight X hf)
def fX9_isOther_p114 (D : aD) (K69 : aH → (Option Nat) → (Option Nat) → Int32 → Int32 → Option (Int32 × aH)) (h : aH) (a0 : Option Nat) (a2 : Option Nat) (a3 : Int32) (a4 : Int32) : Option (Int32 × aH) :=
  K69 h a0 a2 a3 (a4 + 1)
theorem vX9_isOther_p114 {h : aH} {K69 : aH → (Option Nat) → (Option Nat) → Int32 → Int32 → Option (Int32 × aH)} {a0 : Option Nat} {a2 : Option Nat} {a3 : Int32} {a4 : Int32} {q : Int32} {g : aH} (X : aX p l R s m meth c D n0 s0 yX9_isOther cX9_isOther 15 362 5 (some .boolean) h0) (k69 : ∀ (h : aH) (a0 : Option Nat) (a2 : Option Nat) (a3 : Int32) (a4 : Int32) (q : Int32) (g : aH), K69 h a0 a2 a3 a4 = some (q, g) → V p l e R s m args below meth c D n0 s0 (aEnd D below args s h0 (.inr (some (.int q)), g)) h 69 [(0, false, va_rf a0), (2, false, va_rf a2), (3, false, .int a3), (4, false, .int a4)] []) (hf : fX9_isOther_p114 D K69 h a0 a2 a3 a4 = some (q, g)) : V p l e R s m args below meth c D n0 s0 (aEnd D below args s h0 (.inr (some (.int q)), g)) h 114 [(0, false, va_rf a0), (2, false, va_rf a2), (3, false, .int a3), (4, false, .int a4)] [] := by
  have C := X.1
  unfold fX9_isOther_p114 at hf
  refine v_iinc (pc := 114) (j := 3) (v := (a4 + 1)) (lv' := [(4, false, .int (a4 + 1)), (0, false, va_rf a0), (2, false, va_rf a2), (3, false, .int a3)]) C dX9_isOther_114 rfl rfl (by decide) rfl ?_
  refine v_goto (pc := 117) (tgt := 69) C dX9_isOther_117 rfl ?_
  exact V.sub [1, 2, 3, 0] rfl (k69 _ _ _ _ _ _ _ hf)
def fX9_isOther_p102 (D : aD) (K69 : aH → (Option Nat) → (Option Nat) → Int32 → Int32 → Option (Int32 × aH)) (h : aH) (a0 : Option Nat) (a2 : Option Nat) (a3 : Int32) (a4 : Int32) : Option (Int32 × aH) :=
  (aIs h 8 a0).bind fun _ =>
  (fX9_isFree D h a0 a4).bind fun x2 =>
  fX9_isOther_p114 D K69 h a0 a2 (if x2 = 0 then a3 else a4) a4
theorem vX9_isOther_p102 {h : aH} {K69 : aH → (Option Nat) → (Option Nat) → Int32 → Int32 → Option (Int32 × aH)} {a0 : Option Nat} {a2 : Option Nat} {a3 : Int32} {a4 : Int32} {q : Int32} {g : aH} (X : aX p l R s m meth c D n0 s0 yX9_isOther cX9_isOther 15 362 5 (some .boolean) h0) (k69 : ∀ (h : aH) (a0 : Option Nat) (a2 : Option Nat) (a3 : Int32) (a4 : Int32) (q : Int32) (g : aH), K69 h a0 a2 a3 a4 = some (q, g) → V p l e R s m args below meth c D n0 s0 (aEnd D below args s h0 (.inr (some (.int q)), g)) h 69 [(0, false, va_rf a0), (2, false, va_rf a2), (3, false, .int a3), (4, false, .int a4)] []) (hf : fX9_isOther_p102 D K69 h a0 a2 a3 a4 = some (q, g)) : V p l e R s m args below meth c D n0 s0 (aEnd D below args s h0 (.inr (some (.int q)), g)) h 102 [(0, false, va_rf a0), (2, false, va_rf a2), (3, false, .int a3), (4, false, .int a4)] [] := by
  have C := X.1
  unfold fX9_isOther_p102 at hf
  refine v_aload_n (pc := 102) (j := 0) C dX9_isOther_102 rfl rfl ?_
  refine v_iload (pc := 103) (j := 3) C dX9_isOther_103 rfl ?_
  obtain ⟨b1, eb1, hf⟩ := oB hf
  obtain ⟨rb1, _, kb1⟩ := aIs_eq eb1
  obtain ⟨x2, ex2, hf⟩ := oB hf
  refine v_call (pc := 105) (d_V (pc := 105) C (As := [.int a4]) (rest := []) rb1 kb1 nt_8 q1336 yi_X9_isFree_FigureSurvey_Scene yk_X9_isFree rfl (by decide) (by decide) (Nat.le_trans aw_0 (by decide)) rfl (mX9_isFree C.st ex2) dX9_isOther_105) ?_
  refine v_if_eq (pc := 108) (tgt := 114) C dX9_isOther_108 rfl (fun hc => ?_) (fun hc => ?_)
  · simp only [if_pos hc] at hf
    exact V.sub [0, 1, 2, 3] rfl (vX9_isOther_p114 X k69 hf)
  · simp only [if_neg hc] at hf
    refine v_iload (pc := 111) (j := 3) C dX9_isOther_111 rfl ?_
    refine v_istore_n (pc := 113) (lv' := [(3, false, .int a4), (0, false, va_rf a0), (2, false, va_rf a2), (4, false, .int a4)]) C dX9_isOther_113 rfl (by decide) rfl ?_
    exact V.sub [1, 2, 0, 3] rfl (vX9_isOther_p114 X k69 hf)
def fX9_isOther_p120 (D : aD) (h : aH) (a0 : Option Nat) (a2 : Option Nat) (a3 : Int32) : Option (Int32 × aH) :=
  (gI h 8 6 a0).bind fun x1 =>
  if a3 = x1 then
  ((aIs h 8 a0).bind fun _ =>
  (fX9_broken D h a0 a2).bind fun x3 =>
  (aIs h 8 a0).bind fun _ =>
  (fX9_weight D h a0 a3).bind fun x6 =>
  (aIs h 8 a0).bind fun _ =>
  (fX9_brokenWeight D h a0).bind fun x9 =>
  if (x3 + x6) = x9 then
  (some ((0 : Int32), h))
  else
  (some ((1 : Int32), h)))
  else
  (some ((1 : Int32), h))
theorem vX9_isOther_p120 {h : aH} {a0 : Option Nat} {a2 : Option Nat} {a3 : Int32} {q : Int32} {g : aH} (X : aX p l R s m meth c D n0 s0 yX9_isOther cX9_isOther 15 362 5 (some .boolean) h0) (hf : fX9_isOther_p120 D h a0 a2 a3 = some (q, g)) : V p l e R s m args below meth c D n0 s0 (aEnd D below args s h0 (.inr (some (.int q)), g)) h 120 [(0, false, va_rf a0), (2, false, va_rf a2), (3, false, .int a3)] [] := by
  have C := X.1
  unfold fX9_isOther_p120 at hf
  refine v_iload_n (pc := 120) (j := 2) C dX9_isOther_120 rfl rfl ?_
  refine v_aload_n (pc := 121) (j := 0) C dX9_isOther_121 rfl rfl ?_
  obtain ⟨x1, ex1, hf⟩ := oB hf
  refine v_getF (pc := 122) C lk_X9_130 (gI_eq ex1) dX9_isOther_122 ?_
  refine v_icmp_ne (pc := 125) (tgt := 146) C dX9_isOther_125 rfl (fun hc => ?_) (fun hc => ?_)
  · rw [if_neg hc] at hf
    refine v_iconst (pc := 146) (v := (1 : Int32)) C dX9_isOther_146 rfl ?_
    refine v_goto (pc := 147) (tgt := 151) C dX9_isOther_147 rfl ?_
    cases hf
    exact v_zreturn (pc := 151) C X.2.1 X.2.2.1 X.2.2.2.1 (by decide) rfl dX9_isOther_151
  · rw [if_pos (Decidable.of_not_not hc)] at hf
    refine v_aload_n (pc := 128) (j := 0) C dX9_isOther_128 rfl rfl ?_
    refine v_aload_n (pc := 129) (j := 1) C dX9_isOther_129 rfl rfl ?_
    obtain ⟨b2, eb2, hf⟩ := oB hf
    obtain ⟨rb2, _, kb2⟩ := aIs_eq eb2
    obtain ⟨x3, ex3, hf⟩ := oB hf
    refine v_call (pc := 130) (d_V (pc := 130) C (As := [va_rf a2]) (rest := []) rb2 kb2 nt_8 q1330 yi_X9_broken_FigureSurvey_Scene yk_X9_broken rfl (by decide) (by decide) (Nat.le_trans aw_0 (by decide)) rfl (mX9_broken C.st ex3) dX9_isOther_130) ?_
    refine v_aload_n (pc := 133) (j := 0) C dX9_isOther_133 rfl rfl ?_
    refine v_iload_n (pc := 134) (j := 2) C dX9_isOther_134 rfl rfl ?_
    obtain ⟨b5, eb5, hf⟩ := oB hf
    obtain ⟨rb5, _, kb5⟩ := aIs_eq eb5
    obtain ⟨x6, ex6, hf⟩ := oB hf
    refine v_call (pc := 135) (d_V (pc := 135) C (As := [.int a3]) (rest := [.int x3]) rb5 kb5 nt_8 q1289 yi_X9_weight_FigureSurvey_Scene yk_X9_weight rfl (by decide) (by decide) (Nat.le_trans (aw_i aw_0) (by decide)) rfl (mX9_weight C.st ex6) dX9_isOther_135) ?_
    refine v_iadd (pc := 138) C dX9_isOther_138 ?_
    refine v_aload_n (pc := 139) (j := 0) C dX9_isOther_139 rfl rfl ?_
    obtain ⟨b8, eb8, hf⟩ := oB hf
    obtain ⟨rb8, _, kb8⟩ := aIs_eq eb8
    obtain ⟨x9, ex9, hf⟩ := oB hf
    refine v_call (pc := 140) (d_V (pc := 140) C (As := []) (rest := [.int (x3 + x6)]) rb8 kb8 nt_8 q1341 yi_X9_brokenWeight_FigureSurvey_Scene yk_X9_brokenWeight rfl (by decide) (by decide) (Nat.le_trans (aw_i aw_0) (by decide)) rfl (mX9_brokenWeight C.st ex9) dX9_isOther_140) ?_
    refine v_icmp_eq (pc := 143) (tgt := 150) C dX9_isOther_143 rfl (fun hc => ?_) (fun hc => ?_)
    · rw [if_pos hc] at hf
      refine v_iconst (pc := 150) (v := (0 : Int32)) C dX9_isOther_150 rfl ?_
      cases hf
      exact v_zreturn (pc := 151) C X.2.1 X.2.2.1 X.2.2.2.1 (by decide) rfl dX9_isOther_151
    · rw [if_neg hc] at hf
      refine v_iconst (pc := 146) (v := (1 : Int32)) C dX9_isOther_146 rfl ?_
      refine v_goto (pc := 147) (tgt := 151) C dX9_isOther_147 rfl ?_
      cases hf
      exact v_zreturn (pc := 151) C X.2.1 X.2.2.1 X.2.2.2.1 (by decide) rfl dX9_isOther_151
def fX9_isOther_p69 (D : aD) : Nat → aH → (Option Nat) → (Option Nat) → Int32 → Int32 → Option (Int32 × aH)
  | 0, _, _, _, _, _ => none
  | n + 1, h, a0, a2, a3, a4 =>
  (gR h 8 3 a0).bind fun x1 =>
  (aIs h 15 x1).bind fun _ =>
  (fJ2_size D h x1).bind fun x3 =>
  if ((1 : Int32) <<< (x3 &&& 31)) ≤ a4 then
  (fX9_isOther_p120 D h a0 a2 a3)
  else
  (if a3 = (-1 : Int32) then
  (fX9_isOther_p102 D (fX9_isOther_p69 D n) h a0 a2 a3 a4)
  else
  ((aIs h 8 a0).bind fun _ =>
  (fX9_weight D h a0 a4).bind fun x6 =>
  (aIs h 8 a0).bind fun _ =>
  (fX9_weight D h a0 a3).bind fun x9 =>
  if x9 ≤ x6 then
  (fX9_isOther_p114 D (fX9_isOther_p69 D n) h a0 a2 a3 a4)
  else
  (fX9_isOther_p102 D (fX9_isOther_p69 D n) h a0 a2 a3 a4)))
theorem vX9_isOther_p69 (X : aX p l R s m meth c D n0 s0 yX9_isOther cX9_isOther 15 362 5 (some .boolean) h0) : ∀ (n : Nat) (h : aH) (a0 : Option Nat) (a2 : Option Nat) (a3 : Int32) (a4 : Int32) (q : Int32) (g : aH), fX9_isOther_p69 D n h a0 a2 a3 a4 = some (q, g) → V p l e R s m args below meth c D n0 s0 (aEnd D below args s h0 (.inr (some (.int q)), g)) h 69 [(0, false, va_rf a0), (2, false, va_rf a2), (3, false, .int a3), (4, false, .int a4)] [] := by
  have C := X.1
  intro n
  induction n with
  | zero =>
    intro _ _ _ _ _ _ _ hf
    rw [fX9_isOther_p69] at hf
    cases hf
  | succ n ih =>
    intro h a0 a2 a3 a4 q g hf
    rw [fX9_isOther_p69] at hf
    refine v_iload (pc := 69) (j := 3) C dX9_isOther_69 rfl ?_
    refine v_iconst (pc := 71) (v := (1 : Int32)) C dX9_isOther_71 rfl ?_
    refine v_aload_n (pc := 72) (j := 0) C dX9_isOther_72 rfl rfl ?_
    obtain ⟨x1, ex1, hf⟩ := oB hf
    refine v_getF (pc := 73) C lk_X9_25 (gR_eq ex1) dX9_isOther_73 ?_
    obtain ⟨b2, eb2, hf⟩ := oB hf
    obtain ⟨rb2, _, kb2⟩ := aIs_eq eb2
    obtain ⟨x3, ex3, hf⟩ := oB hf
    refine v_call (pc := 76) (d_V (pc := 76) C (As := []) (rest := [.int (1 : Int32), .int a4]) rb2 kb2 nt_15 q870 yi_J2_size_java_util_ArrayList yk_J2_size rfl (by decide) (by decide) (Nat.le_trans (aw_i (aw_i aw_0)) (by decide)) rfl (mJ2_size C.st ex3) dX9_isOther_76) ?_
    refine v_ishl (pc := 79) C dX9_isOther_79 ?_
    refine v_icmp_ge (pc := 80) (tgt := 120) C dX9_isOther_80 rfl (fun hc => ?_) (fun hc => ?_)
    · rw [if_pos hc] at hf
      exact V.sub [0, 1, 2] rfl (vX9_isOther_p120 X hf)
    · rw [if_neg hc] at hf
      refine v_iload_n (pc := 83) (j := 2) C dX9_isOther_83 rfl rfl ?_
      refine v_iconst (pc := 84) (v := (-1 : Int32)) C dX9_isOther_84 rfl ?_
      refine v_icmp_eq (pc := 85) (tgt := 102) C dX9_isOther_85 rfl (fun hc => ?_) (fun hc => ?_)
      · rw [if_pos hc] at hf
        exact V.sub [0, 1, 2, 3] rfl (vX9_isOther_p102 X ih hf)
      · rw [if_neg hc] at hf
        refine v_aload_n (pc := 88) (j := 0) C dX9_isOther_88 rfl rfl ?_
        refine v_iload (pc := 89) (j := 3) C dX9_isOther_89 rfl ?_
        obtain ⟨b5, eb5, hf⟩ := oB hf
        obtain ⟨rb5, _, kb5⟩ := aIs_eq eb5
        obtain ⟨x6, ex6, hf⟩ := oB hf
        refine v_call (pc := 91) (d_V (pc := 91) C (As := [.int a4]) (rest := []) rb5 kb5 nt_8 q1289 yi_X9_weight_FigureSurvey_Scene yk_X9_weight rfl (by decide) (by decide) (Nat.le_trans aw_0 (by decide)) rfl (mX9_weight C.st ex6) dX9_isOther_91) ?_
        refine v_aload_n (pc := 94) (j := 0) C dX9_isOther_94 rfl rfl ?_
        refine v_iload_n (pc := 95) (j := 2) C dX9_isOther_95 rfl rfl ?_
        obtain ⟨b8, eb8, hf⟩ := oB hf
        obtain ⟨rb8, _, kb8⟩ := aIs_eq eb8
        obtain ⟨x9, ex9, hf⟩ := oB hf
        refine v_call (pc := 96) (d_V (pc := 96) C (As := [.int a3]) (rest := [.int x6]) rb8 kb8 nt_8 q1289 yi_X9_weight_FigureSurvey_Scene yk_X9_weight rfl (by decide) (by decide) (Nat.le_trans (aw_i aw_0) (by decide)) rfl (mX9_weight C.st ex9) dX9_isOther_96) ?_
        refine v_icmp_ge (pc := 99) (tgt := 114) C dX9_isOther_99 rfl (fun hc => ?_) (fun hc => ?_)
        · rw [if_pos hc] at hf
          exact V.sub [0, 1, 2, 3] rfl (vX9_isOther_p114 X ih hf)
        · rw [if_neg hc] at hf
          exact V.sub [0, 1, 2, 3] rfl (vX9_isOther_p102 X ih hf)
def fX9_isOther_p64 (D : aD) (h : aH) (a0 : Option Nat) (a2 : Option Nat) : Option (Int32 × aH) :=
  fX9_isOther_p69 D FU h a0 a2 (-1 : Int32) (0 : Int32)
theorem vX9_isOther_p64 {h : aH} {a0 : Option Nat} {a2 : Option Nat} {q : Int32} {g : aH} (X : aX p l R s m meth c D n0 s0 yX9_isOther cX9_isOther 15 362 5 (some .boolean) h0) (hf : fX9_isOther_p64 D h a0 a2 = some (q, g)) : V p l e R s m args below meth c D n0 s0 (aEnd D below args s h0 (.inr (some (.int q)), g)) h 64 [(0, false, va_rf a0), (2, false, va_rf a2)] [] := by
  have C := X.1
  unfold fX9_isOther_p64 at hf
  refine v_iconst (pc := 64) (v := (-1 : Int32)) C dX9_isOther_64 rfl ?_
  refine v_istore_n (pc := 65) (lv' := [(3, false, .int (-1 : Int32)), (0, false, va_rf a0), (2, false, va_rf a2)]) C dX9_isOther_65 rfl (by decide) rfl ?_
  refine v_iconst (pc := 66) (v := (0 : Int32)) C dX9_isOther_66 rfl ?_
  refine v_istore (pc := 67) (lv' := [(4, false, .int (0 : Int32)), (3, false, .int (-1 : Int32)), (0, false, va_rf a0), (2, false, va_rf a2)]) C dX9_isOther_67 (by decide) rfl ?_
  exact V.sub [2, 3, 1, 0] rfl (vX9_isOther_p69 X _ _ _ _ _ _ _ _ hf)
def fX9_isOther_p39 (D : aD) : Nat → aH → (Option Nat) → Int32 → (Option Nat) → Int32 → Option (Int32 × aH)
  | 0, _, _, _, _, _ => none
  | n + 1, h, a0, a1, a2, a3 =>
  if a1 ≤ a3 then
  (fX9_isOther_p64 D h a0 a2)
  else
  ((eI h a2 a3).bind fun x1 =>
  (gR h 8 4 a0).bind fun x2 =>
  (eI h x2 a3).bind fun x3 =>
  if x1 = x3 then
  (fX9_isOther_p39 D n h a0 a1 a2 (a3 + 1))
  else
  (some ((1 : Int32), h)))
theorem vX9_isOther_p39 (X : aX p l R s m meth c D n0 s0 yX9_isOther cX9_isOther 15 362 5 (some .boolean) h0) : ∀ (n : Nat) (h : aH) (a0 : Option Nat) (a1 : Int32) (a2 : Option Nat) (a3 : Int32) (q : Int32) (g : aH), fX9_isOther_p39 D n h a0 a1 a2 a3 = some (q, g) → V p l e R s m args below meth c D n0 s0 (aEnd D below args s h0 (.inr (some (.int q)), g)) h 39 [(0, false, va_rf a0), (1, false, .int a1), (2, false, va_rf a2), (3, false, .int a3)] [] := by
  have C := X.1
  intro n
  induction n with
  | zero =>
    intro _ _ _ _ _ _ _ hf
    rw [fX9_isOther_p39] at hf
    cases hf
  | succ n ih =>
    intro h a0 a1 a2 a3 q g hf
    rw [fX9_isOther_p39] at hf
    refine v_iload_n (pc := 39) (j := 3) C dX9_isOther_39 rfl rfl ?_
    refine v_iload_n (pc := 40) (j := 1) C dX9_isOther_40 rfl rfl ?_
    refine v_icmp_ge (pc := 41) (tgt := 64) C dX9_isOther_41 rfl (fun hc => ?_) (fun hc => ?_)
    · rw [if_pos hc] at hf
      exact V.sub [0, 2] rfl (vX9_isOther_p64 X hf)
    · rw [if_neg hc] at hf
      refine v_aload_n (pc := 44) (j := 2) C dX9_isOther_44 rfl rfl ?_
      refine v_iload_n (pc := 45) (j := 3) C dX9_isOther_45 rfl rfl ?_
      obtain ⟨x1, ex1, hf⟩ := oB hf
      refine v_iaload (pc := 46) C ex1 dX9_isOther_46 ?_
      refine v_aload_n (pc := 47) (j := 0) C dX9_isOther_47 rfl rfl ?_
      obtain ⟨x2, ex2, hf⟩ := oB hf
      refine v_getF (pc := 48) C lk_X9_97 (gR_eq ex2) dX9_isOther_48 ?_
      refine v_iload_n (pc := 51) (j := 3) C dX9_isOther_51 rfl rfl ?_
      obtain ⟨x3, ex3, hf⟩ := oB hf
      refine v_iaload (pc := 52) C ex3 dX9_isOther_52 ?_
      refine v_icmp_eq (pc := 53) (tgt := 58) C dX9_isOther_53 rfl (fun hc => ?_) (fun hc => ?_)
      · rw [if_pos hc] at hf
        refine v_iinc (pc := 58) (j := 3) (v := (a3 + 1)) (lv' := [(3, false, .int (a3 + 1)), (0, false, va_rf a0), (1, false, .int a1), (2, false, va_rf a2)]) C dX9_isOther_58 rfl rfl (by decide) rfl ?_
        refine v_goto (pc := 61) (tgt := 39) C dX9_isOther_61 rfl ?_
        exact V.sub [1, 2, 3, 0] rfl (ih _ _ _ _ _ _ _ hf)
      · rw [if_neg hc] at hf
        refine v_iconst (pc := 56) (v := (1 : Int32)) C dX9_isOther_56 rfl ?_
        cases hf
        exact v_zreturn (pc := 57) C X.2.1 X.2.2.1 X.2.2.2.1 (by decide) rfl dX9_isOther_57
def fX9_isOther (D : aD) (h : aH) (a0 : Option Nat) : Option (Int32 × aH) :=
  (gR h 8 1 a0).bind fun x1 =>
  (aIs h 15 x1).bind fun _ =>
  (fJ2_size D h x1).bind fun x3 =>
  if (5 : Int32) < x3 then
  (some ((0 : Int32), h))
  else
  (if x3 = 0 then
  (some ((0 : Int32), h))
  else
  ((aMkA D h 100 x3 (.int 0)).bind fun h5 =>
  (sF D h5 100 (some h.1) (0 : Int32) (.int (-1 : Int32))).bind fun h6 =>
  (aMkA D h6 100 x3 (.int 0)).bind fun h7 =>
  (aIs h7 8 a0).bind fun _ =>
  (fX9_rows D 8 h7 a0 (some h6.1) (0 : Int32) (0 : Int32) (some h.1)).bind fun h10 =>
  fX9_isOther_p39 D FU h10 a0 x3 (some h.1) (0 : Int32)))
theorem vX9_isOther {h : aH} {a0 : Option Nat} {q : Int32} {g : aH} (X : aX p l R s m meth c D n0 s0 yX9_isOther cX9_isOther 15 362 5 (some .boolean) h0) (hf : fX9_isOther D h a0 = some (q, g)) : V p l e R s m args below meth c D n0 s0 (aEnd D below args s h0 (.inr (some (.int q)), g)) h 0 [(0, false, va_rf a0)] [] := by
  have C := X.1
  unfold fX9_isOther at hf
  refine v_aload_n (pc := 0) (j := 0) C dX9_isOther_0 rfl rfl ?_
  obtain ⟨x1, ex1, hf⟩ := oB hf
  refine v_getF (pc := 1) C lk_X9_18 (gR_eq ex1) dX9_isOther_1 ?_
  obtain ⟨b2, eb2, hf⟩ := oB hf
  obtain ⟨rb2, _, kb2⟩ := aIs_eq eb2
  obtain ⟨x3, ex3, hf⟩ := oB hf
  refine v_call (pc := 4) (d_V (pc := 4) C (As := []) (rest := []) rb2 kb2 nt_15 q870 yi_J2_size_java_util_ArrayList yk_J2_size rfl (by decide) (by decide) (Nat.le_trans aw_0 (by decide)) rfl (mJ2_size C.st ex3) dX9_isOther_4) ?_
  refine v_istore_n (pc := 7) (lv' := [(1, false, .int x3), (0, false, va_rf a0)]) C dX9_isOther_7 rfl (by decide) rfl ?_
  refine v_iload_n (pc := 8) (j := 0) C dX9_isOther_8 rfl rfl ?_
  refine v_iconst (pc := 9) (v := (5 : Int32)) C dX9_isOther_9 rfl ?_
  refine v_icmp_gt (pc := 10) (tgt := 17) C dX9_isOther_10 rfl (fun hc => ?_) (fun hc => ?_)
  · rw [if_pos hc] at hf
    refine v_iconst (pc := 17) (v := (0 : Int32)) C dX9_isOther_17 rfl ?_
    cases hf
    exact v_zreturn (pc := 18) C X.2.1 X.2.2.1 X.2.2.2.1 (by decide) rfl dX9_isOther_18
  · rw [if_neg hc] at hf
    refine v_iload_n (pc := 13) (j := 0) C dX9_isOther_13 rfl rfl ?_
    refine v_if_ne (pc := 14) (tgt := 19) C dX9_isOther_14 rfl (fun hc => ?_) (fun hc => ?_)
    · rw [if_neg hc] at hf
      refine v_iload_n (pc := 19) (j := 0) C dX9_isOther_19 rfl rfl ?_
      obtain ⟨h5, eh5, hf⟩ := oB hf
      refine v_newarray (pc := 20) (t := 100) (v := .int 0) C q169 rfl rfl (by decide) (by decide) rfl eh5 dX9_isOther_20 ?_
      refine v_astore_n (pc := 22) (lv' := [(2, false, va_rf (some h.1)), (1, false, .int x3), (0, false, va_rf a0)]) C dX9_isOther_22 rfl (by decide) rfl ?_
      refine v_aload_n (pc := 23) (j := 0) C dX9_isOther_23 rfl rfl ?_
      refine v_iconst (pc := 24) (v := (0 : Int32)) C dX9_isOther_24 rfl ?_
      refine v_iconst (pc := 25) (v := (-1 : Int32)) C dX9_isOther_25 rfl ?_
      obtain ⟨h6, eh6, hf⟩ := oB hf
      refine v_iastore (pc := 26) C eh6 dX9_isOther_26 ?_
      refine v_aload_n (pc := 27) (j := 2) C dX9_isOther_27 rfl rfl ?_
      refine v_iload_n (pc := 28) (j := 1) C dX9_isOther_28 rfl rfl ?_
      obtain ⟨h7, eh7, hf⟩ := oB hf
      refine v_newarray (pc := 29) (t := 100) (v := .int 0) C q169 rfl rfl (by decide) (by decide) rfl eh7 dX9_isOther_29 ?_
      refine v_iconst (pc := 31) (v := (0 : Int32)) C dX9_isOther_31 rfl ?_
      refine v_iconst (pc := 32) (v := (0 : Int32)) C dX9_isOther_32 rfl ?_
      refine v_aload_n (pc := 33) (j := 0) C dX9_isOther_33 rfl rfl ?_
      obtain ⟨b8, eb8, hf⟩ := oB hf
      obtain ⟨rb8, _, kb8⟩ := aIs_eq eb8
      obtain ⟨h10, ex9, hf⟩ := oB hf
      refine v_callU (pc := 34) (d_V (pc := 34) C (As := [va_rf (some h6.1), .int (0 : Int32), .int (0 : Int32), va_rf (some h.1)]) (rest := []) rb8 kb8 nt_8 q1326 yi_X9_rows_FigureSurvey_Scene yk_X9_rows rfl (by decide) (by decide) (Nat.le_trans aw_0 (by decide)) rfl (mX9_rows C.st 8 _ _ _ _ _ _ _ ex9) dX9_isOther_34) ?_
      refine v_iconst (pc := 37) (v := (0 : Int32)) C dX9_isOther_37 rfl ?_
      refine v_istore_n (pc := 38) (lv' := [(3, false, .int (0 : Int32)), (2, false, va_rf (some h.1)), (1, false, .int x3), (0, false, va_rf a0)]) C dX9_isOther_38 rfl (by decide) rfl ?_
      exact V.sub [3, 2, 1, 0] rfl (vX9_isOther_p39 X _ _ _ _ _ _ _ _ hf)
    · rw [if_pos (Decidable.of_not_not hc)] at hf
      refine v_iconst (pc := 17) (v := (0 : Int32)) C dX9_isOther_17 rfl ?_
      cases hf
      exact v_zreturn (pc := 18) C X.2.1 X.2.2.1 X.2.2.2.1 (by decide) rfl dX9_isOther_18
theorem mX9_isOther {l : Launch} {D : aD} {h : aH} {a0 : Option Nat} {q : Int32} {g : aH} (hst : l.stackTraces = false) (hf : fX9_isOther D h a0 = some (q, g)) : aM l D yX9_isOther cX9_isOther 5 (some .boolean) 15 362 [va_rf a0] h (.inr (some (.int q)), g) :=
  aM.ofX [(false, va_rf a0)] rfl (ap_r ap_0) (by decide +kernel) hst (al_of (aw_r aw_0) (by decide)) fun p e s m args below meth c X => V.sub (lv' := [(0, false, va_rf a0)]) [0] rfl (vX9_isOther X hf)
def fJ29_init (D : aD) (h : aH) (a0 : Option Nat) : Option (Unit) :=
  (a0).bind fun _ =>
  (fJ0_init D h a0).bind fun _ =>
  some ()
theorem vJ29_init {h : aH} {a0 : Option Nat} {q : Unit} (X : aX p l R s m meth c D n0 s0 yJ29_init cJ29_init 2 32 1 (none) h0) (hf : fJ29_init D h a0 = some q) : V p l e R s m args below meth c D n0 s0 (aEnd D below args s h0 (.inr none, h)) h 0 [(0, false, va_rf a0)] [] := by
  have C := X.1
  unfold fJ29_init at hf
  refine v_aload_n (pc := 0) (j := 0) C dJ29_init_0 rfl rfl ?_
  obtain ⟨_, eb1, hf⟩ := oB hf
  obtain ⟨x2, ex2, hf⟩ := oB hf
  refine v_callU (pc := 1) (d_I (pc := 1) C (As := []) (rest := []) eb1 rfl rfl q1068 q149 yk_J0_init rfl (by decide) (by decide) (Nat.le_trans aw_0 (by decide)) rfl (mJ0_init C.st ex2) dJ29_init_1) ?_
  cases hf
  exact v_return (pc := 4) C X.2.1 X.2.2.1 X.2.2.2.1 rfl dJ29_init_4
theorem mJ29_init {l : Launch} {D : aD} {h : aH} {a0 : Option Nat} {q : Unit} (hst : l.stackTraces = false) (hf : fJ29_init D h a0 = some q) : aM l D yJ29_init cJ29_init 1 (none) 2 32 [va_rf a0] h (.inr none, h) :=
  aM.ofX [(false, va_rf a0)] rfl (ap_r ap_0) (by decide +kernel) hst (al_of (aw_r aw_0) (by decide)) fun p e s m args below meth c X => V.sub (lv' := [(0, false, va_rf a0)]) [0] rfl (vJ29_init X hf)
def fJ35_init_2 (D : aD) (h : aH) (a0 : Option Nat) (a1 : Option Nat) : Option (aH) :=
  (a0).bind fun _ =>
  (fJ29_init D h a0).bind fun _ =>
  (pF D h 18 0 a0 (va_rf a1)).bind fun h4 =>
  some h4
theorem vJ35_init_2 {h : aH} {a0 : Option Nat} {a1 : Option Nat} {g : aH} (X : aX p l R s m meth c D n0 s0 yJ35_init_2 cJ35_init_2 3 52 2 (none) h0) (hf : fJ35_init_2 D h a0 a1 = some g) : V p l e R s m args below meth c D n0 s0 (aEnd D below args s h0 (.inr none, g)) h 0 [(0, false, va_rf a0), (1, false, va_rf a1)] [] := by
  have C := X.1
  unfold fJ35_init_2 at hf
  refine v_aload_n (pc := 0) (j := 0) C dJ35_init_2_0 rfl rfl ?_
  obtain ⟨_, eb1, hf⟩ := oB hf
  obtain ⟨x2, ex2, hf⟩ := oB hf
  refine v_callU (pc := 1) (d_I (pc := 1) C (As := []) (rest := []) eb1 rfl rfl q1371 q1066 yk_J29_init rfl (by decide) (by decide) (Nat.le_trans aw_0 (by decide)) rfl (mJ29_init C.st ex2) dJ35_init_2_1) ?_
  refine v_aload_n (pc := 4) (j := 0) C dJ35_init_2_4 rfl rfl ?_
  refine v_aload_n (pc := 5) (j := 1) C dJ35_init_2_5 rfl rfl ?_
  obtain ⟨h4, eh4, hf⟩ := oB hf
  refine v_putF (pc := 6) C lk_J35_7 tyJ35 tyJ35_ok nmJ35 (tyJ35_ok 0 (by decide)) rfl ft_o eh4 dJ35_init_2_6 ?_
  cases hf
  exact v_return (pc := 9) C X.2.1 X.2.2.1 X.2.2.2.1 rfl dJ35_init_2_9
theorem mJ35_init_2 {l : Launch} {D : aD} {h : aH} {a0 : Option Nat} {a1 : Option Nat} {g : aH} (hst : l.stackTraces = false) (hf : fJ35_init_2 D h a0 a1 = some g) : aM l D yJ35_init_2 cJ35_init_2 2 (none) 3 52 [va_rf a0, va_rf a1] h (.inr none, g) :=
  aM.ofX [(false, va_rf a0), (false, va_rf a1)] rfl (ap_r (ap_r ap_0)) (by decide +kernel) hst (al_of (aw_r (aw_r aw_0)) (by decide)) fun p e s m args below meth c X => V.sub (lv' := [(0, false, va_rf a0), (1, false, va_rf a1)]) [0, 1] rfl (vJ35_init_2 X hf)
def fJ35_init (D : aD) (h : aH) (a0 : Option Nat) : Option (aH) :=
  (aMk D h (16, dfJ4)).bind fun h1 =>
  (fJ4_init D h1 (some h.1)).bind fun h4 =>
  (a0).bind fun _ =>
  (fJ35_init_2 D h4 a0 (some h.1)).bind fun h7 =>
  some h7
theorem vJ35_init {h : aH} {a0 : Option Nat} {g : aH} (X : aX p l R s m meth c D n0 s0 yJ35_init cJ35_init 4 73 1 (none) h0) (hf : fJ35_init D h a0 = some g) : V p l e R s m args below meth c D n0 s0 (aEnd D below args s h0 (.inr none, g)) h 0 [(0, false, va_rf a0)] [] := by
  have C := X.1
  unfold fJ35_init at hf
  refine v_aload_n (pc := 0) (j := 0) C dJ35_init_0 rfl rfl ?_
  obtain ⟨h1, eh1, hf⟩ := oB hf
  refine v_new (pc := 1) (t := 16) (fs := dfJ4) (T := TJ4) (N := 9) C rfl in_J4 tyJ4 tyJ4_ok q1366 q171 q79 dfJ4_ok rfl eh1 dJ35_init_1 ?_
  refine v_dup (pc := 4) C dJ35_init_4 (va_rfc _) ?_
  obtain ⟨h4, ex3, hf⟩ := oB hf
  refine v_callU (pc := 5) (d_I (pc := 5) C (As := []) (rest := [va_rf (some h.1), va_rf a0]) rfl rfl rfl q1367 q173 yk_J4_init rfl (by decide) (by decide) (Nat.le_trans (aw_r (aw_r aw_0)) (by decide)) rfl (mJ4_init C.st ex3) dJ35_init_5) ?_
  obtain ⟨_, eb5, hf⟩ := oB hf
  obtain ⟨h7, ex6, hf⟩ := oB hf
  refine v_callU (pc := 8) (d_I (pc := 8) C (As := [va_rf (some h.1)]) (rest := []) eb5 rfl rfl q1368 q1369 yk_J35_init_2 rfl (by decide) (by decide) (Nat.le_trans aw_0 (by decide)) rfl (mJ35_init_2 C.st ex6) dJ35_init_8) ?_
  cases hf
  exact v_return (pc := 11) C X.2.1 X.2.2.1 X.2.2.2.1 rfl dJ35_init_11
theorem mJ35_init {l : Launch} {D : aD} {h : aH} {a0 : Option Nat} {g : aH} (hst : l.stackTraces = false) (hf : fJ35_init D h a0 = some g) : aM l D yJ35_init cJ35_init 1 (none) 4 73 [va_rf a0] h (.inr none, g) :=
  aM.ofX [(false, va_rf a0)] rfl (ap_r ap_0) (by decide +kernel) hst (al_of (aw_r aw_0) (by decide)) fun p e s m args below meth c X => V.sub (lv' := [(0, false, va_rf a0)]) [0] rfl (vJ35_init X hf)
def fJ34_init (D : aD) (h : aH) (a0 : Option Nat) (a1 : Option Nat) (a2 : Option Nat) (a3 : Option Nat) : Option (aH) :=
  (a0).bind fun _ =>
  (pF D h 17 5 a0 (.int (1 : Int32))).bind fun h2 =>
  (pF D h2 17 0 a0 (va_rf a1)).bind fun h3 =>
  (pF D h3 17 1 a0 (va_rf a2)).bind fun h4 =>
  (pF D h4 17 4 a0 (va_rf a3)).bind fun h5 =>
  some h5
theorem vJ34_init {h : aH} {a0 : Option Nat} {a1 : Option Nat} {a2 : Option Nat} {a3 : Option Nat} {g : aH} (X : aX p l R s m meth c D n0 s0 yJ34_init cJ34_init 1 12 4 (none) h0) (hf : fJ34_init D h a0 a1 a2 a3 = some g) : V p l e R s m args below meth c D n0 s0 (aEnd D below args s h0 (.inr none, g)) h 0 [(0, false, va_rf a0), (1, false, va_rf a1), (2, false, va_rf a2), (3, false, va_rf a3)] [] := by
  have C := X.1
  unfold fJ34_init at hf
  refine v_aload_n (pc := 0) (j := 0) C dJ34_init_0 rfl rfl ?_
  obtain ⟨_, e1, hf⟩ := oB hf
  refine v_objInit (pc := 1) C e1 q1427 q138 q139 (by decide) (Nat.le_trans (Nat.add_le_add_right aw_0 12) (by decide)) dJ34_init_1 ?_
  refine v_aload_n (pc := 4) (j := 0) C dJ34_init_4 rfl rfl ?_
  refine v_iconst (pc := 5) (v := (1 : Int32)) C dJ34_init_5 rfl ?_
  obtain ⟨h2, eh2, hf⟩ := oB hf
  refine v_putF (pc := 6) C lk_J34_9 tyJ34 tyJ34_ok nmJ34 (tyJ34_ok 5 (by decide)) (nr_z (by decide)) (ft_z (by decide)) eh2 dJ34_init_6 ?_
  refine v_aload_n (pc := 9) (j := 0) C dJ34_init_9 rfl rfl ?_
  refine v_aload_n (pc := 10) (j := 1) C dJ34_init_10 rfl rfl ?_
  obtain ⟨h3, eh3, hf⟩ := oB hf
  refine v_putF (pc := 11) C lk_J34_15 tyJ34 tyJ34_ok nmJ34 (tyJ34_ok 0 (by decide)) rfl ft_o eh3 dJ34_init_11 ?_
  refine v_aload_n (pc := 14) (j := 0) C dJ34_init_14 rfl rfl ?_
  refine v_aload_n (pc := 15) (j := 2) C dJ34_init_15 rfl rfl ?_
  obtain ⟨h4, eh4, hf⟩ := oB hf
  refine v_putF (pc := 16) C lk_J34_19 tyJ34 tyJ34_ok nmJ34 (tyJ34_ok 1 (by decide)) rfl ft_o eh4 dJ34_init_16 ?_
  refine v_aload_n (pc := 19) (j := 0) C dJ34_init_19 rfl rfl ?_
  refine v_aload_n (pc := 20) (j := 3) C dJ34_init_20 rfl rfl ?_
  obtain ⟨h5, eh5, hf⟩ := oB hf
  refine v_putF (pc := 21) C lk_J34_22 tyJ34 tyJ34_ok nmJ34 (tyJ34_ok 4 (by decide)) rfl ft_o eh5 dJ34_init_21 ?_
  cases hf
  exact v_return (pc := 24) C X.2.1 X.2.2.1 X.2.2.2.1 rfl dJ34_init_24
theorem mJ34_init {l : Launch} {D : aD} {h : aH} {a0 : Option Nat} {a1 : Option Nat} {a2 : Option Nat} {a3 : Option Nat} {g : aH} (hst : l.stackTraces = false) (hf : fJ34_init D h a0 a1 a2 a3 = some g) : aM l D yJ34_init cJ34_init 4 (none) 1 12 [va_rf a0, va_rf a1, va_rf a2, va_rf a3] h (.inr none, g) :=
  aM.ofX [(false, va_rf a0), (false, va_rf a1), (false, va_rf a2), (false, va_rf a3)] rfl (ap_r (ap_r (ap_r (ap_r ap_0)))) (by decide +kernel) hst (al_of (aw_r (aw_r (aw_r (aw_r aw_0)))) (by decide)) fun p e s m args below meth c X => V.sub (lv' := [(0, false, va_rf a0), (1, false, va_rf a1), (2, false, va_rf a2), (3, false, va_rf a3)]) [0, 1, 2, 3] rfl (vJ34_init X hf)
def fJ4_parentOf (D : aD) (h : aH) (a0 : Option Nat) : Option (Option Nat) :=
  if a0 = none then
  (some none)
  else
  ((gR h 17 4 a0).bind fun x1 =>
  some x1)
theorem vJ4_parentOf {h : aH} {a0 : Option Nat} {q : Option Nat} (X : aX p l R s m meth c D n0 s0 yJ4_parentOf cJ4_parentOf 0 0 1 (some (.object "java/util/TreeMap$Entry")) h0) (hf : fJ4_parentOf D h a0 = some q) : V p l e R s m args below meth c D n0 s0 (aEnd D below args s h0 (.inr (some (va_rf q)), h)) h 0 [(0, false, va_rf a0)] [] := by
  have C := X.1
  unfold fJ4_parentOf at hf
  refine v_aload_n (pc := 0) (j := 0) C dJ4_parentOf_0 rfl rfl ?_
  refine v_ifnonnull (pc := 1) (tgt := 8) C dJ4_parentOf_1 rfl (fun hc => ?_) (fun hc => ?_)
  · rw [if_neg hc] at hf
    refine v_aload_n (pc := 8) (j := 0) C dJ4_parentOf_8 rfl rfl ?_
    obtain ⟨x1, ex1, hf⟩ := oB hf
    refine v_getF (pc := 9) C lk_J4_124 (gR_eq ex1) dJ4_parentOf_9 ?_
    cases hf
    exact v_areturn (pc := 12) C X.2.1 X.2.2.1 X.2.2.2.1 (Or.inl ⟨_, rfl⟩) rfl dJ4_parentOf_12
  · rw [if_pos hc] at hf
    refine v_null (pc := 4) C dJ4_parentOf_4 ?_
    refine v_goto (pc := 5) (tgt := 12) C dJ4_parentOf_5 rfl ?_
    cases hf
    exact v_areturn (pc := 12) C X.2.1 X.2.2.1 X.2.2.2.1 (Or.inl ⟨_, rfl⟩) rfl dJ4_parentOf_12
theorem mJ4_parentOf {l : Launch} {D : aD} {h : aH} {a0 : Option Nat} {q : Option Nat} (hst : l.stackTraces = false) (hf : fJ4_parentOf D h a0 = some q) : aM l D yJ4_parentOf cJ4_parentOf 1 (some (.object "java/util/TreeMap$Entry")) 0 0 [va_rf a0] h (.inr (some (va_rf q)), h) :=
  aM.ofX [(false, va_rf a0)] rfl (ap_r ap_0) (by decide +kernel) hst (al_of (aw_r aw_0) (by decide)) fun p e s m args below meth c X => V.sub (lv' := [(0, false, va_rf a0)]) [0] rfl (vJ4_parentOf X hf)
def fJ4_leftOf (D : aD) (h : aH) (a0 : Option Nat) : Option (Option Nat) :=
  if a0 = none then
  (some none)
  else
  ((gR h 17 2 a0).bind fun x1 =>
  some x1)
theorem vJ4_leftOf {h : aH} {a0 : Option Nat} {q : Option Nat} (X : aX p l R s m meth c D n0 s0 yJ4_leftOf cJ4_leftOf 0 0 1 (some (.object "java/util/TreeMap$Entry")) h0) (hf : fJ4_leftOf D h a0 = some q) : V p l e R s m args below meth c D n0 s0 (aEnd D below args s h0 (.inr (some (va_rf q)), h)) h 0 [(0, false, va_rf a0)] [] := by
  have C := X.1
  unfold fJ4_leftOf at hf
  refine v_aload_n (pc := 0) (j := 0) C dJ4_leftOf_0 rfl rfl ?_
  refine v_ifnonnull (pc := 1) (tgt := 8) C dJ4_leftOf_1 rfl (fun hc => ?_) (fun hc => ?_)
  · rw [if_neg hc] at hf
    refine v_aload_n (pc := 8) (j := 0) C dJ4_leftOf_8 rfl rfl ?_
    obtain ⟨x1, ex1, hf⟩ := oB hf
    refine v_getF (pc := 9) C lk_J4_111 (gR_eq ex1) dJ4_leftOf_9 ?_
    cases hf
    exact v_areturn (pc := 12) C X.2.1 X.2.2.1 X.2.2.2.1 (Or.inl ⟨_, rfl⟩) rfl dJ4_leftOf_12
  · rw [if_pos hc] at hf
    refine v_null (pc := 4) C dJ4_leftOf_4 ?_
    refine v_goto (pc := 5) (tgt := 12) C dJ4_leftOf_5 rfl ?_
    cases hf
    exact v_areturn (pc := 12) C X.2.1 X.2.2.1 X.2.2.2.1 (Or.inl ⟨_, rfl⟩) rfl dJ4_leftOf_12
theorem mJ4_leftOf {l : Launch} {D : aD} {h : aH} {a0 : Option Nat} {q : Option Nat} (hst : l.stackTraces = false) (hf : fJ4_leftOf D h a0 = some q) : aM l D yJ4_leftOf cJ4_leftOf 1 (some (.object "java/util/TreeMap$Entry")) 0 0 [va_rf a0] h (.inr (some (va_rf q)), h) :=
  aM.ofX [(false, va_rf a0)] rfl (ap_r ap_0) (by decide +kernel) hst (al_of (aw_r aw_0) (by decide)) fun p e s m args below meth c X => V.sub (lv' := [(0, false, va_rf a0)]) [0] rfl (vJ4_leftOf X hf)
def fJ4_rightOf (D : aD) (h : aH) (a0 : Option Nat) : Option (Option Nat) :=
  if a0 = none then
  (some none)
  else
  ((gR h 17 3 a0).bind fun x1 =>
  some x1)
theorem vJ4_rightOf {h : aH} {a0 : Option Nat} {q : Option Nat} (X : aX p l R s m meth c D n0 s0 yJ4_rightOf cJ4_rightOf 0 0 1 (some (.object "java/util/TreeMap$Entry")) h0) (hf : fJ4_rightOf D h a0 = some q) : V p l e R s m args below meth c D n0 s0 (aEnd D below args s h0 (.inr (some (va_rf q)), h)) h 0 [(0, false, va_rf a0)] [] := by
  have C := X.1
  unfold fJ4_rightOf at hf
  refine v_aload_n (pc := 0) (j := 0) C dJ4_rightOf_0 rfl rfl ?_
  refine v_ifnonnull (pc := 1) (tgt := 8) C dJ4_rightOf_1 rfl (fun hc => ?_) (fun hc => ?_)
  · rw [if_neg hc] at hf
    refine v_aload_n (pc := 8) (j := 0) C dJ4_rightOf_8 rfl rfl ?_
    obtain ⟨x1, ex1, hf⟩ := oB hf
    refine v_getF (pc := 9) C lk_J4_114 (gR_eq ex1) dJ4_rightOf_9 ?_
    cases hf
    exact v_areturn (pc := 12) C X.2.1 X.2.2.1 X.2.2.2.1 (Or.inl ⟨_, rfl⟩) rfl dJ4_rightOf_12
  · rw [if_pos hc] at hf
    refine v_null (pc := 4) C dJ4_rightOf_4 ?_
    refine v_goto (pc := 5) (tgt := 12) C dJ4_rightOf_5 rfl ?_
    cases hf
    exact v_areturn (pc := 12) C X.2.1 X.2.2.1 X.2.2.2.1 (Or.inl ⟨_, rfl⟩) rfl dJ4_rightOf_12
theorem mJ4_rightOf {l : Launch} {D : aD} {h : aH} {a0 : Option Nat} {q : Option Nat} (hst : l.stackTraces = false) (hf : fJ4_rightOf D h a0 = some q) : aM l D yJ4_rightOf cJ4_rightOf 1 (some (.object "java/util/TreeMap$Entry")) 0 0 [va_rf a0] h (.inr (some (va_rf q)), h) :=
  aM.ofX [(false, va_rf a0)] rfl (ap_r ap_0) (by decide +kernel) hst (al_of (aw_r aw_0) (by decide)) fun p e s m args below meth c X => V.sub (lv' := [(0, false, va_rf a0)]) [0] rfl (vJ4_rightOf X hf)
def fJ4_colorOf (D : aD) (h : aH) (a0 : Option Nat) : Option (Int32) :=
  if a0 = none then
  (some (1 : Int32))
  else
  ((gI h 17 5 a0).bind fun x1 =>
  (ckZ x1).bind fun _ =>
  some x1)
theorem vJ4_colorOf {h : aH} {a0 : Option Nat} {q : Int32} (X : aX p l R s m meth c D n0 s0 yJ4_colorOf cJ4_colorOf 0 0 1 (some .boolean) h0) (hf : fJ4_colorOf D h a0 = some q) : V p l e R s m args below meth c D n0 s0 (aEnd D below args s h0 (.inr (some (.int q)), h)) h 0 [(0, false, va_rf a0)] [] := by
  have C := X.1
  unfold fJ4_colorOf at hf
  refine v_aload_n (pc := 0) (j := 0) C dJ4_colorOf_0 rfl rfl ?_
  refine v_ifnonnull (pc := 1) (tgt := 8) C dJ4_colorOf_1 rfl (fun hc => ?_) (fun hc => ?_)
  · rw [if_neg hc] at hf
    refine v_aload_n (pc := 8) (j := 0) C dJ4_colorOf_8 rfl rfl ?_
    obtain ⟨x1, ex1, hf⟩ := oB hf
    refine v_getF (pc := 9) C lk_J4_290 (gI_eq ex1) dJ4_colorOf_9 ?_
    obtain ⟨_, e2, hf⟩ := oB hf
    cases hf
    exact v_zreturn (pc := 12) C X.2.1 X.2.2.1 X.2.2.2.1 (ckZ_eq e2) rfl dJ4_colorOf_12
  · rw [if_pos hc] at hf
    refine v_iconst (pc := 4) (v := (1 : Int32)) C dJ4_colorOf_4 rfl ?_
    refine v_goto (pc := 5) (tgt := 12) C dJ4_colorOf_5 rfl ?_
    cases hf
    exact v_zreturn (pc := 12) C X.2.1 X.2.2.1 X.2.2.2.1 (by decide) rfl dJ4_colorOf_12
theorem mJ4_colorOf {l : Launch} {D : aD} {h : aH} {a0 : Option Nat} {q : Int32} (hst : l.stackTraces = false) (hf : fJ4_colorOf D h a0 = some q) : aM l D yJ4_colorOf cJ4_colorOf 1 (some .boolean) 0 0 [va_rf a0] h (.inr (some (.int q)), h) :=
  aM.ofX [(false, va_rf a0)] rfl (ap_r ap_0) (by decide +kernel) hst (al_of (aw_r aw_0) (by decide)) fun p e s m args below meth c X => V.sub (lv' := [(0, false, va_rf a0)]) [0] rfl (vJ4_colorOf X hf)
def fJ4_setColor (D : aD) (h : aH) (a0 : Option Nat) (a1 : Int32) : Option (aH) :=
  if a0 = none then
  (some h)
  else
  ((ckZ a1).bind fun _ =>
  (pF D h 17 5 a0 (.int a1)).bind fun h1 =>
  some h1)
theorem vJ4_setColor {h : aH} {a0 : Option Nat} {a1 : Int32} {g : aH} (X : aX p l R s m meth c D n0 s0 yJ4_setColor cJ4_setColor 0 0 2 (none) h0) (hf : fJ4_setColor D h a0 a1 = some g) : V p l e R s m args below meth c D n0 s0 (aEnd D below args s h0 (.inr none, g)) h 0 [(0, false, va_rf a0), (1, false, .int a1)] [] := by
  have C := X.1
  unfold fJ4_setColor at hf
  refine v_aload_n (pc := 0) (j := 0) C dJ4_setColor_0 rfl rfl ?_
  refine v_ifnull (pc := 1) (tgt := 9) C dJ4_setColor_1 rfl (fun hc => ?_) (fun hc => ?_)
  · rw [if_pos hc] at hf
    cases hf
    exact v_return (pc := 9) C X.2.1 X.2.2.1 X.2.2.2.1 rfl dJ4_setColor_9
  · rw [if_neg hc] at hf
    refine v_aload_n (pc := 4) (j := 0) C dJ4_setColor_4 rfl rfl ?_
    refine v_iload_n (pc := 5) (j := 1) C dJ4_setColor_5 rfl rfl ?_
    obtain ⟨_, zh1, hf⟩ := oB hf
    obtain ⟨h1, eh1, hf⟩ := oB hf
    refine v_putF (pc := 6) C lk_J4_290 tyJ34 tyJ34_ok nmJ34 (tyJ34_ok 5 (by decide)) (nr_z (ckZ_eq zh1)) (ft_z (ckZ_eq zh1)) eh1 dJ4_setColor_6 ?_
    cases hf
    exact v_return (pc := 9) C X.2.1 X.2.2.1 X.2.2.2.1 rfl dJ4_setColor_9
theorem mJ4_setColor {l : Launch} {D : aD} {h : aH} {a0 : Option Nat} {a1 : Int32} {g : aH} (hst : l.stackTraces = false) (hf : fJ4_setColor D h a0 a1 = some g) : aM l D yJ4_setColor cJ4_setColor 2 (none) 0 0 [va_rf a0, .int a1] h (.inr none, g) :=
  aM.ofX [(false, va_rf a0), (false, .int a1)] rfl (ap_r (ap_c rfl ap_0)) (by decide +kernel) hst (al_of (aw_r (aw_i aw_0)) (by decide)) fun p e s m args below meth c X => V.sub (lv' := [(0, false, va_rf a0), (1, false, .int a1)]) [0, 1] rfl (vJ4_setColor X hf)
def fJ4_rotateLeft_p85 (D : aD) (h : aH) (a1 : Option Nat) (a2 : Option Nat) : Option (aH) :=
  (pF D h 17 2 a2 (va_rf a1)).bind fun h1 =>
  (pF D h1 17 4 a1 (va_rf a2)).bind fun h2 =>
  some h2
theorem vJ4_rotateLeft_p85 {h : aH} {a1 : Option Nat} {a2 : Option Nat} {g : aH} (X : aX p l R s m meth c D n0 s0 yJ4_rotateLeft cJ4_rotateLeft 0 0 3 (none) h0) (hf : fJ4_rotateLeft_p85 D h a1 a2 = some g) : V p l e R s m args below meth c D n0 s0 (aEnd D below args s h0 (.inr none, g)) h 85 [(1, false, va_rf a1), (2, false, va_rf a2)] [] := by
  have C := X.1
  unfold fJ4_rotateLeft_p85 at hf
  refine v_aload_n (pc := 85) (j := 1) C dJ4_rotateLeft_85 rfl rfl ?_
  refine v_aload_n (pc := 86) (j := 0) C dJ4_rotateLeft_86 rfl rfl ?_
  obtain ⟨h1, eh1, hf⟩ := oB hf
  refine v_putF (pc := 87) C lk_J4_111 tyJ34 tyJ34_ok nmJ34 (tyJ34_ok 2 (by decide)) rfl ft_o eh1 dJ4_rotateLeft_87 ?_
  refine v_aload_n (pc := 90) (j := 0) C dJ4_rotateLeft_90 rfl rfl ?_
  refine v_aload_n (pc := 91) (j := 1) C dJ4_rotateLeft_91 rfl rfl ?_
  obtain ⟨h2, eh2, hf⟩ := oB hf
  refine v_putF (pc := 92) C lk_J4_124 tyJ34 tyJ34_ok nmJ34 (tyJ34_ok 4 (by decide)) rfl ft_o eh2 dJ4_rotateLeft_92 ?_
  cases hf
  exact v_return (pc := 95) C X.2.1 X.2.2.1 X.2.2.2.1 rfl dJ4_rotateLeft_95
def fJ4_rotateLeft_p32 (D : aD) (h : aH) (a0 : Option Nat) (a1 : Option Nat) (a2 : Option Nat) : Option (aH) :=
  (gR h 17 4 a1).bind fun x1 =>
  (pF D h 17 4 a2 (va_rf x1)).bind fun h2 =>
  (gR h2 17 4 a1).bind fun x3 =>
  if x3 = none then
  ((pF D h2 16 3 a0 (va_rf a2)).bind fun h10 =>
  fJ4_rotateLeft_p85 D h10 a1 a2)
  else
  ((gR h2 17 4 a1).bind fun x4 =>
  (gR h2 17 2 x4).bind fun x5 =>
  if x5 = a1 then
  ((gR h2 17 4 a1).bind fun x8 =>
  (pF D h2 17 2 x8 (va_rf a2)).bind fun h9 =>
  fJ4_rotateLeft_p85 D h9 a1 a2)
  else
  ((gR h2 17 4 a1).bind fun x6 =>
  (pF D h2 17 3 x6 (va_rf a2)).bind fun h7 =>
  fJ4_rotateLeft_p85 D h7 a1 a2))
theorem vJ4_rotateLeft_p32 {h : aH} {a0 : Option Nat} {a1 : Option Nat} {a2 : Option Nat} {g : aH} (X : aX p l R s m meth c D n0 s0 yJ4_rotateLeft cJ4_rotateLeft 0 0 3 (none) h0) (hf : fJ4_rotateLeft_p32 D h a0 a1 a2 = some g) : V p l e R s m args below meth c D n0 s0 (aEnd D below args s h0 (.inr none, g)) h 32 [(0, false, va_rf a0), (1, false, va_rf a1), (2, false, va_rf a2)] [] := by
  have C := X.1
  unfold fJ4_rotateLeft_p32 at hf
  refine v_aload_n (pc := 32) (j := 2) C dJ4_rotateLeft_32 rfl rfl ?_
  refine v_aload_n (pc := 33) (j := 1) C dJ4_rotateLeft_33 rfl rfl ?_
  obtain ⟨x1, ex1, hf⟩ := oB hf
  refine v_getF (pc := 34) C lk_J4_124 (gR_eq ex1) dJ4_rotateLeft_34 ?_
  obtain ⟨h2, eh2, hf⟩ := oB hf
  refine v_putF (pc := 37) C lk_J4_124 tyJ34 tyJ34_ok nmJ34 (tyJ34_ok 4 (by decide)) rfl ft_o eh2 dJ4_rotateLeft_37 ?_
  refine v_aload_n (pc := 40) (j := 1) C dJ4_rotateLeft_40 rfl rfl ?_
  obtain ⟨x3, ex3, hf⟩ := oB hf
  refine v_getF (pc := 41) C lk_J4_124 (gR_eq ex3) dJ4_rotateLeft_41 ?_
  refine v_ifnonnull (pc := 44) (tgt := 55) C dJ4_rotateLeft_44 rfl (fun hc => ?_) (fun hc => ?_)
  · rw [if_neg hc] at hf
    refine v_aload_n (pc := 55) (j := 1) C dJ4_rotateLeft_55 rfl rfl ?_
    obtain ⟨x4, ex4, hf⟩ := oB hf
    refine v_getF (pc := 56) C lk_J4_124 (gR_eq ex4) dJ4_rotateLeft_56 ?_
    obtain ⟨x5, ex5, hf⟩ := oB hf
    refine v_getF (pc := 59) C lk_J4_111 (gR_eq ex5) dJ4_rotateLeft_59 ?_
    refine v_aload_n (pc := 62) (j := 1) C dJ4_rotateLeft_62 rfl rfl ?_
    refine v_acmp_ne (pc := 63) (tgt := 77) C dJ4_rotateLeft_63 rfl (fun hc => ?_) (fun hc => ?_)
    · rw [if_neg hc] at hf
      refine v_aload_n (pc := 77) (j := 1) C dJ4_rotateLeft_77 rfl rfl ?_
      obtain ⟨x6, ex6, hf⟩ := oB hf
      refine v_getF (pc := 78) C lk_J4_124 (gR_eq ex6) dJ4_rotateLeft_78 ?_
      refine v_aload_n (pc := 81) (j := 2) C dJ4_rotateLeft_81 rfl rfl ?_
      obtain ⟨h7, eh7, hf⟩ := oB hf
      refine v_putF (pc := 82) C lk_J4_114 tyJ34 tyJ34_ok nmJ34 (tyJ34_ok 3 (by decide)) rfl ft_o eh7 dJ4_rotateLeft_82 ?_
      exact V.sub [1, 2] rfl (vJ4_rotateLeft_p85 X hf)
    · rw [if_pos (Decidable.of_not_not hc)] at hf
      refine v_aload_n (pc := 66) (j := 1) C dJ4_rotateLeft_66 rfl rfl ?_
      obtain ⟨x8, ex8, hf⟩ := oB hf
      refine v_getF (pc := 67) C lk_J4_124 (gR_eq ex8) dJ4_rotateLeft_67 ?_
      refine v_aload_n (pc := 70) (j := 2) C dJ4_rotateLeft_70 rfl rfl ?_
      obtain ⟨h9, eh9, hf⟩ := oB hf
      refine v_putF (pc := 71) C lk_J4_111 tyJ34 tyJ34_ok nmJ34 (tyJ34_ok 2 (by decide)) rfl ft_o eh9 dJ4_rotateLeft_71 ?_
      refine v_goto (pc := 74) (tgt := 85) C dJ4_rotateLeft_74 rfl ?_
      exact V.sub [1, 2] rfl (vJ4_rotateLeft_p85 X hf)
  · rw [if_pos hc] at hf
    refine v_aload_n (pc := 47) (j := 0) C dJ4_rotateLeft_47 rfl rfl ?_
    refine v_aload_n (pc := 48) (j := 2) C dJ4_rotateLeft_48 rfl rfl ?_
    obtain ⟨h10, eh10, hf⟩ := oB hf
    refine v_putF (pc := 49) C lk_J4_101 tyJ4 tyJ4_ok nmJ4 (tyJ4_ok 3 (by decide)) rfl ft_o eh10 dJ4_rotateLeft_49 ?_
    refine v_goto (pc := 52) (tgt := 85) C dJ4_rotateLeft_52 rfl ?_
    exact V.sub [1, 2] rfl (vJ4_rotateLeft_p85 X hf)
def fJ4_rotateLeft (D : aD) (h : aH) (a0 : Option Nat) (a1 : Option Nat) : Option (aH) :=
  if a1 = none then
  (some h)
  else
  ((gR h 17 3 a1).bind fun x1 =>
  (gR h 17 2 x1).bind fun x2 =>
  (pF D h 17 3 a1 (va_rf x2)).bind fun h3 =>
  (gR h3 17 2 x1).bind fun x4 =>
  if x4 = none then
  (fJ4_rotateLeft_p32 D h3 a0 a1 x1)
  else
  ((gR h3 17 2 x1).bind fun x5 =>
  (pF D h3 17 4 x5 (va_rf a1)).bind fun h6 =>
  fJ4_rotateLeft_p32 D h6 a0 a1 x1))
theorem vJ4_rotateLeft {h : aH} {a0 : Option Nat} {a1 : Option Nat} {g : aH} (X : aX p l R s m meth c D n0 s0 yJ4_rotateLeft cJ4_rotateLeft 0 0 3 (none) h0) (hf : fJ4_rotateLeft D h a0 a1 = some g) : V p l e R s m args below meth c D n0 s0 (aEnd D below args s h0 (.inr none, g)) h 0 [(0, false, va_rf a0), (1, false, va_rf a1)] [] := by
  have C := X.1
  unfold fJ4_rotateLeft at hf
  refine v_aload_n (pc := 0) (j := 1) C dJ4_rotateLeft_0 rfl rfl ?_
  refine v_ifnull (pc := 1) (tgt := 95) C dJ4_rotateLeft_1 rfl (fun hc => ?_) (fun hc => ?_)
  · rw [if_pos hc] at hf
    cases hf
    exact v_return (pc := 95) C X.2.1 X.2.2.1 X.2.2.2.1 rfl dJ4_rotateLeft_95
  · rw [if_neg hc] at hf
    refine v_aload_n (pc := 4) (j := 1) C dJ4_rotateLeft_4 rfl rfl ?_
    obtain ⟨x1, ex1, hf⟩ := oB hf
    refine v_getF (pc := 5) C lk_J4_114 (gR_eq ex1) dJ4_rotateLeft_5 ?_
    refine v_astore_n (pc := 8) (lv' := [(2, false, va_rf x1), (0, false, va_rf a0), (1, false, va_rf a1)]) C dJ4_rotateLeft_8 rfl (by decide) rfl ?_
    refine v_aload_n (pc := 9) (j := 2) C dJ4_rotateLeft_9 rfl rfl ?_
    refine v_aload_n (pc := 10) (j := 0) C dJ4_rotateLeft_10 rfl rfl ?_
    obtain ⟨x2, ex2, hf⟩ := oB hf
    refine v_getF (pc := 11) C lk_J4_111 (gR_eq ex2) dJ4_rotateLeft_11 ?_
    obtain ⟨h3, eh3, hf⟩ := oB hf
    refine v_putF (pc := 14) C lk_J4_114 tyJ34 tyJ34_ok nmJ34 (tyJ34_ok 3 (by decide)) rfl ft_o eh3 dJ4_rotateLeft_14 ?_
    refine v_aload_n (pc := 17) (j := 0) C dJ4_rotateLeft_17 rfl rfl ?_
    obtain ⟨x4, ex4, hf⟩ := oB hf
    refine v_getF (pc := 18) C lk_J4_111 (gR_eq ex4) dJ4_rotateLeft_18 ?_
    refine v_ifnull (pc := 21) (tgt := 32) C dJ4_rotateLeft_21 rfl (fun hc => ?_) (fun hc => ?_)
    · rw [if_pos hc] at hf
      exact V.sub [1, 2, 0] rfl (vJ4_rotateLeft_p32 X hf)
    · rw [if_neg hc] at hf
      refine v_aload_n (pc := 24) (j := 0) C dJ4_rotateLeft_24 rfl rfl ?_
      obtain ⟨x5, ex5, hf⟩ := oB hf
      refine v_getF (pc := 25) C lk_J4_111 (gR_eq ex5) dJ4_rotateLeft_25 ?_
      refine v_aload_n (pc := 28) (j := 2) C dJ4_rotateLeft_28 rfl rfl ?_
      obtain ⟨h6, eh6, hf⟩ := oB hf
      refine v_putF (pc := 29) C lk_J4_124 tyJ34 tyJ34_ok nmJ34 (tyJ34_ok 4 (by decide)) rfl ft_o eh6 dJ4_rotateLeft_29 ?_
      exact V.sub [1, 2, 0] rfl (vJ4_rotateLeft_p32 X hf)
theorem mJ4_rotateLeft {l : Launch} {D : aD} {h : aH} {a0 : Option Nat} {a1 : Option Nat} {g : aH} (hst : l.stackTraces = false) (hf : fJ4_rotateLeft D h a0 a1 = some g) : aM l D yJ4_rotateLeft cJ4_rotateLeft 3 (none) 0 0 [va_rf a0, va_rf a1] h (.inr none, g) :=
  aM.ofX [(false, va_rf a0), (false, va_rf a1)] rfl (ap_r (ap_r ap_0)) (by decide +kernel) hst (al_of (aw_r (aw_r aw_0)) (by decide)) fun p e s m args below meth c X => V.sub (lv' := [(0, false, va_rf a0), (1, false, va_rf a1)]) [0, 1] rfl (vJ4_rotateLeft X hf)
def fJ4_rotateRight_p85 (D : aD) (h : aH) (a1 : Option Nat) (a2 : Option Nat) : Option (aH) :=
  (pF D h 17 3 a2 (va_rf a1)).bind fun h1 =>
  (pF D h1 17 4 a1 (va_rf a2)).bind fun h2 =>
  some h2
theorem vJ4_rotateRight_p85 {h : aH} {a1 : Option Nat} {a2 : Option Nat} {g : aH} (X : aX p l R s m meth c D n0 s0 yJ4_rotateRight cJ4_rotateRight 0 0 3 (none) h0) (hf : fJ4_rotateRight_p85 D h a1 a2 = some g) : V p l e R s m args below meth c D n0 s0 (aEnd D below args s h0 (.inr none, g)) h 85 [(1, false, va_rf a1), (2, false, va_rf a2)] [] := by
  have C := X.1
  unfold fJ4_rotateRight_p85 at hf
  refine v_aload_n (pc := 85) (j := 1) C dJ4_rotateRight_85 rfl rfl ?_
  refine v_aload_n (pc := 86) (j := 0) C dJ4_rotateRight_86 rfl rfl ?_
  obtain ⟨h1, eh1, hf⟩ := oB hf
  refine v_putF (pc := 87) C lk_J4_114 tyJ34 tyJ34_ok nmJ34 (tyJ34_ok 3 (by decide)) rfl ft_o eh1 dJ4_rotateRight_87 ?_
  refine v_aload_n (pc := 90) (j := 0) C dJ4_rotateRight_90 rfl rfl ?_
  refine v_aload_n (pc := 91) (j := 1) C dJ4_rotateRight_91 rfl rfl ?_
  obtain ⟨h2, eh2, hf⟩ := oB hf
  refine v_putF (pc := 92) C lk_J4_124 tyJ34 tyJ34_ok nmJ34 (tyJ34_ok 4 (by decide)) rfl ft_o eh2 dJ4_rotateRight_92 ?_
  cases hf
  exact v_return (pc := 95) C X.2.1 X.2.2.1 X.2.2.2.1 rfl dJ4_rotateRight_95
def fJ4_rotateRight_p32 (D : aD) (h : aH) (a0 : Option Nat) (a1 : Option Nat) (a2 : Option Nat) : Option (aH) :=
  (gR h 17 4 a1).bind fun x1 =>
  (pF D h 17 4 a2 (va_rf x1)).bind fun h2 =>
  (gR h2 17 4 a1).bind fun x3 =>
  if x3 = none then
  ((pF D h2 16 3 a0 (va_rf a2)).bind fun h10 =>
  fJ4_rotateRight_p85 D h10 a1 a2)
  else
  ((gR h2 17 4 a1).bind fun x4 =>
  (gR h2 17 3 x4).bind fun x5 =>
  if x5 = a1 then
  ((gR h2 17 4 a1).bind fun x8 =>
  (pF D h2 17 3 x8 (va_rf a2)).bind fun h9 =>
  fJ4_rotateRight_p85 D h9 a1 a2)
  else
  ((gR h2 17 4 a1).bind fun x6 =>
  (pF D h2 17 2 x6 (va_rf a2)).bind fun h7 =>
  fJ4_rotateRight_p85 D h7 a1 a2))
theorem vJ4_rotateRight_p32 {h : aH} {a0 : Option Nat} {a1 : Option Nat} {a2 : Option Nat} {g : aH} (X : aX p l R s m meth c D n0 s0 yJ4_rotateRight cJ4_rotateRight 0 0 3 (none) h0) (hf : fJ4_rotateRight_p32 D h a0 a1 a2 = some g) : V p l e R s m args below meth c D n0 s0 (aEnd D below args s h0 (.inr none, g)) h 32 [(0, false, va_rf a0), (1, false, va_rf a1), (2, false, va_rf a2)] [] := by
  have C := X.1
  unfold fJ4_rotateRight_p32 at hf
  refine v_aload_n (pc := 32) (j := 2) C dJ4_rotateRight_32 rfl rfl ?_
  refine v_aload_n (pc := 33) (j := 1) C dJ4_rotateRight_33 rfl rfl ?_
  obtain ⟨x1, ex1, hf⟩ := oB hf
  refine v_getF (pc := 34) C lk_J4_124 (gR_eq ex1) dJ4_rotateRight_34 ?_
  obtain ⟨h2, eh2, hf⟩ := oB hf
  refine v_putF (pc := 37) C lk_J4_124 tyJ34 tyJ34_ok nmJ34 (tyJ34_ok 4 (by decide)) rfl ft_o eh2 dJ4_rotateRight_37 ?_
  refine v_aload_n (pc := 40) (j := 1) C dJ4_rotateRight_40 rfl rfl ?_
  obtain ⟨x3, ex3, hf⟩ := oB hf
  refine v_getF (pc := 41) C lk_J4_124 (gR_eq ex3) dJ4_rotateRight_41 ?_
  refine v_ifnonnull (pc := 44) (tgt := 55) C dJ4_rotateRight_44 rfl (fun hc => ?_) (fun hc => ?_)
  · rw [if_neg hc] at hf
    refine v_aload_n (pc := 55) (j := 1) C dJ4_rotateRight_55 rfl rfl ?_
    obtain ⟨x4, ex4, hf⟩ := oB hf
    refine v_getF (pc := 56) C lk_J4_124 (gR_eq ex4) dJ4_rotateRight_56 ?_
    obtain ⟨x5, ex5, hf⟩ := oB hf
    refine v_getF (pc := 59) C lk_J4_114 (gR_eq ex5) dJ4_rotateRight_59 ?_
    refine v_aload_n (pc := 62) (j := 1) C dJ4_rotateRight_62 rfl rfl ?_
    refine v_acmp_ne (pc := 63) (tgt := 77) C dJ4_rotateRight_63 rfl (fun hc => ?_) (fun hc => ?_)
    · rw [if_neg hc] at hf
      refine v_aload_n (pc := 77) (j := 1) C dJ4_rotateRight_77 rfl rfl ?_
      obtain ⟨x6, ex6, hf⟩ := oB hf
      refine v_getF (pc := 78) C lk_J4_124 (gR_eq ex6) dJ4_rotateRight_78 ?_
      refine v_aload_n (pc := 81) (j := 2) C dJ4_rotateRight_81 rfl rfl ?_
      obtain ⟨h7, eh7, hf⟩ := oB hf
      refine v_putF (pc := 82) C lk_J4_111 tyJ34 tyJ34_ok nmJ34 (tyJ34_ok 2 (by decide)) rfl ft_o eh7 dJ4_rotateRight_82 ?_
      exact V.sub [1, 2] rfl (vJ4_rotateRight_p85 X hf)
    · rw [if_pos (Decidable.of_not_not hc)] at hf
      refine v_aload_n (pc := 66) (j := 1) C dJ4_rotateRight_66 rfl rfl ?_
      obtain ⟨x8, ex8, hf⟩ := oB hf
      refine v_getF (pc := 67) C lk_J4_124 (gR_eq ex8) dJ4_rotateRight_67 ?_
      refine v_aload_n (pc := 70) (j := 2) C dJ4_rotateRight_70 rfl rfl ?_
      obtain ⟨h9, eh9, hf⟩ := oB hf
      refine v_putF (pc := 71) C lk_J4_114 tyJ34 tyJ34_ok nmJ34 (tyJ34_ok 3 (by decide)) rfl ft_o eh9 dJ4_rotateRight_71 ?_
      refine v_goto (pc := 74) (tgt := 85) C dJ4_rotateRight_74 rfl ?_
      exact V.sub [1, 2] rfl (vJ4_rotateRight_p85 X hf)
  · rw [if_pos hc] at hf
    refine v_aload_n (pc := 47) (j := 0) C dJ4_rotateRight_47 rfl rfl ?_
    refine v_aload_n (pc := 48) (j := 2) C dJ4_rotateRight_48 rfl rfl ?_
    obtain ⟨h10, eh10, hf⟩ := oB hf
    refine v_putF (pc := 49) C lk_J4_101 tyJ4 tyJ4_ok nmJ4 (tyJ4_ok 3 (by decide)) rfl ft_o eh10 dJ4_rotateRight_49 ?_
    refine v_goto (pc := 52) (tgt := 85) C dJ4_rotateRight_52 rfl ?_
    exact V.sub [1, 2] rfl (vJ4_rotateRight_p85 X hf)
def fJ4_rotateRight (D : aD) (h : aH) (a0 : Option Nat) (a1 : Option Nat) : Option (aH) :=
  if a1 = none then
  (some h)
  else
  ((gR h 17 2 a1).bind fun x1 =>
  (gR h 17 3 x1).bind fun x2 =>
  (pF D h 17 2 a1 (va_rf x2)).bind fun h3 =>
  (gR h3 17 3 x1).bind fun x4 =>
  if x4 = none then
  (fJ4_rotateRight_p32 D h3 a0 a1 x1)
  else
  ((gR h3 17 3 x1).bind fun x5 =>
  (pF D h3 17 4 x5 (va_rf a1)).bind fun h6 =>
  fJ4_rotateRight_p32 D h6 a0 a1 x1))
theorem vJ4_rotateRight {h : aH} {a0 : Option Nat} {a1 : Option Nat} {g : aH} (X : aX p l R s m meth c D n0 s0 yJ4_rotateRight cJ4_rotateRight 0 0 3 (none) h0) (hf : fJ4_rotateRight D h a0 a1 = some g) : V p l e R s m args below meth c D n0 s0 (aEnd D below args s h0 (.inr none, g)) h 0 [(0, false, va_rf a0), (1, false, va_rf a1)] [] := by
  have C := X.1
  unfold fJ4_rotateRight at hf
  refine v_aload_n (pc := 0) (j := 1) C dJ4_rotateRight_0 rfl rfl ?_
  refine v_ifnull (pc := 1) (tgt := 95) C dJ4_rotateRight_1 rfl (fun hc => ?_) (fun hc => ?_)
  · rw [if_pos hc] at hf
    cases hf
    exact v_return (pc := 95) C X.2.1 X.2.2.1 X.2.2.2.1 rfl dJ4_rotateRight_95
  · rw [if_neg hc] at hf
    refine v_aload_n (pc := 4) (j := 1) C dJ4_rotateRight_4 rfl rfl ?_
    obtain ⟨x1, ex1, hf⟩ := oB hf
    refine v_getF (pc := 5) C lk_J4_111 (gR_eq ex1) dJ4_rotateRight_5 ?_
    refine v_astore_n (pc := 8) (lv' := [(2, false, va_rf x1), (0, false, va_rf a0), (1, false, va_rf a1)]) C dJ4_rotateRight_8 rfl (by decide) rfl ?_
    refine v_aload_n (pc := 9) (j := 2) C dJ4_rotateRight_9 rfl rfl ?_
    refine v_aload_n (pc := 10) (j := 0) C dJ4_rotateRight_10 rfl rfl ?_
    obtain ⟨x2, ex2, hf⟩ := oB hf
    refine v_getF (pc := 11) C lk_J4_114 (gR_eq ex2) dJ4_rotateRight_11 ?_
    obtain ⟨h3, eh3, hf⟩ := oB hf
    refine v_putF (pc := 14) C lk_J4_111 tyJ34 tyJ34_ok nmJ34 (tyJ34_ok 2 (by decide)) rfl ft_o eh3 dJ4_rotateRight_14 ?_
    refine v_aload_n (pc := 17) (j := 0) C dJ4_rotateRight_17 rfl rfl ?_
    obtain ⟨x4, ex4, hf⟩ := oB hf
    refine v_getF (pc := 18) C lk_J4_114 (gR_eq ex4) dJ4_rotateRight_18 ?_
    refine v_ifnull (pc := 21) (tgt := 32) C dJ4_rotateRight_21 rfl (fun hc => ?_) (fun hc => ?_)
    · rw [if_pos hc] at hf
      exact V.sub [1, 2, 0] rfl (vJ4_rotateRight_p32 X hf)
    · rw [if_neg hc] at hf
      refine v_aload_n (pc := 24) (j := 0) C dJ4_rotateRight_24 rfl rfl ?_
      obtain ⟨x5, ex5, hf⟩ := oB hf
      refine v_getF (pc := 25) C lk_J4_114 (gR_eq ex5) dJ4_rotateRight_25 ?_
      refine v_aload_n (pc := 28) (j := 2) C dJ4_rotateRight_28 rfl rfl ?_
      obtain ⟨h6, eh6, hf⟩ := oB hf
      refine v_putF (pc := 29) C lk_J4_124 tyJ34 tyJ34_ok nmJ34 (tyJ34_ok 4 (by decide)) rfl ft_o eh6 dJ4_rotateRight_29 ?_
      exact V.sub [1, 2, 0] rfl (vJ4_rotateRight_p32 X hf)
theorem mJ4_rotateRight {l : Launch} {D : aD} {h : aH} {a0 : Option Nat} {a1 : Option Nat} {g : aH} (hst : l.stackTraces = false) (hf : fJ4_rotateRight D h a0 a1 = some g) : aM l D yJ4_rotateRight cJ4_rotateRight 3 (none) 0 0 [va_rf a0, va_rf a1] h (.inr none, g) :=
  aM.ofX [(false, va_rf a0), (false, va_rf a1)] rfl (ap_r (ap_r ap_0)) (by decide +kernel) hst (al_of (aw_r (aw_r aw_0)) (by decide)) fun p e s m args below meth c X => V.sub (lv' := [(0, false, va_rf a0), (1, false, va_rf a1)]) [0, 1] rfl (vJ4_rotateRight X hf)
def fJ4_fixAfterInsertion_p118 (D : aD) (K5 : aH → (Option Nat) → (Option Nat) → Option (aH)) (h : aH) (a0 : Option Nat) (a1 : Option Nat) : Option (aH) :=
  (fJ4_parentOf D h a1).bind fun x2 =>
  (fJ4_setColor D h x2 (1 : Int32)).bind fun h6 =>
  (fJ4_parentOf D h6 a1).bind fun x8 =>
  (fJ4_parentOf D h6 x8).bind fun x11 =>
  (fJ4_setColor D h6 x11 (0 : Int32)).bind fun h15 =>
  (fJ4_parentOf D h15 a1).bind fun x17 =>
  (fJ4_parentOf D h15 x17).bind fun x20 =>
  (aIs h15 16 a0).bind fun _ =>
  (fJ4_rotateRight D h15 a0 x20).bind fun h24 =>
  K5 h24 a0 a1
theorem vJ4_fixAfterInsertion_p118 {h : aH} {K5 : aH → (Option Nat) → (Option Nat) → Option (aH)} {a0 : Option Nat} {a1 : Option Nat} {g : aH} (X : aX p l R s m meth c D n0 s0 yJ4_fixAfterInsertion cJ4_fixAfterInsertion 1 22 3 (none) h0) (k5 : ∀ (h : aH) (a0 : Option Nat) (a1 : Option Nat) (g : aH), K5 h a0 a1 = some g → V p l e R s m args below meth c D n0 s0 (aEnd D below args s h0 (.inr none, g)) h 5 [(0, false, va_rf a0), (1, false, va_rf a1)] []) (hf : fJ4_fixAfterInsertion_p118 D K5 h a0 a1 = some g) : V p l e R s m args below meth c D n0 s0 (aEnd D below args s h0 (.inr none, g)) h 118 [(0, false, va_rf a0), (1, false, va_rf a1)] [] := by
  have C := X.1
  unfold fJ4_fixAfterInsertion_p118 at hf
  refine v_aload_n (pc := 118) (j := 1) C dJ4_fixAfterInsertion_118 rfl rfl ?_
  obtain ⟨x2, ex2, hf⟩ := oB hf
  refine v_call (pc := 119) (d_S (pc := 119) C (As := [va_rf a1]) (rest := []) q1464 q1465 yk_J4_parentOf rfl (by decide) (by decide) (Nat.le_trans aw_0 (by decide)) rfl (mJ4_parentOf C.st ex2) dJ4_fixAfterInsertion_119) ?_
  refine v_iconst (pc := 122) (v := (1 : Int32)) C dJ4_fixAfterInsertion_122 rfl ?_
  obtain ⟨h6, ex5, hf⟩ := oB hf
  refine v_callU (pc := 123) (d_S (pc := 123) C (As := [va_rf x2, .int (1 : Int32)]) (rest := []) q1476 q1477 yk_J4_setColor rfl (by decide) (by decide) (Nat.le_trans aw_0 (by decide)) rfl (mJ4_setColor C.st ex5) dJ4_fixAfterInsertion_123) ?_
  refine v_aload_n (pc := 126) (j := 1) C dJ4_fixAfterInsertion_126 rfl rfl ?_
  obtain ⟨x8, ex8, hf⟩ := oB hf
  refine v_call (pc := 127) (d_S (pc := 127) C (As := [va_rf a1]) (rest := []) q1464 q1465 yk_J4_parentOf rfl (by decide) (by decide) (Nat.le_trans aw_0 (by decide)) rfl (mJ4_parentOf C.st ex8) dJ4_fixAfterInsertion_127) ?_
  obtain ⟨x11, ex11, hf⟩ := oB hf
  refine v_call (pc := 130) (d_S (pc := 130) C (As := [va_rf x8]) (rest := []) q1464 q1465 yk_J4_parentOf rfl (by decide) (by decide) (Nat.le_trans aw_0 (by decide)) rfl (mJ4_parentOf C.st ex11) dJ4_fixAfterInsertion_130) ?_
  refine v_iconst (pc := 133) (v := (0 : Int32)) C dJ4_fixAfterInsertion_133 rfl ?_
  obtain ⟨h15, ex14, hf⟩ := oB hf
  refine v_callU (pc := 134) (d_S (pc := 134) C (As := [va_rf x11, .int (0 : Int32)]) (rest := []) q1476 q1477 yk_J4_setColor rfl (by decide) (by decide) (Nat.le_trans aw_0 (by decide)) rfl (mJ4_setColor C.st ex14) dJ4_fixAfterInsertion_134) ?_
  refine v_aload_n (pc := 137) (j := 0) C dJ4_fixAfterInsertion_137 rfl rfl ?_
  refine v_aload_n (pc := 138) (j := 1) C dJ4_fixAfterInsertion_138 rfl rfl ?_
  obtain ⟨x17, ex17, hf⟩ := oB hf
  refine v_call (pc := 139) (d_S (pc := 139) C (As := [va_rf a1]) (rest := [va_rf a0]) q1464 q1465 yk_J4_parentOf rfl (by decide) (by decide) (Nat.le_trans (aw_r aw_0) (by decide)) rfl (mJ4_parentOf C.st ex17) dJ4_fixAfterInsertion_139) ?_
  obtain ⟨x20, ex20, hf⟩ := oB hf
  refine v_call (pc := 142) (d_S (pc := 142) C (As := [va_rf x17]) (rest := [va_rf a0]) q1464 q1465 yk_J4_parentOf rfl (by decide) (by decide) (Nat.le_trans (aw_r aw_0) (by decide)) rfl (mJ4_parentOf C.st ex20) dJ4_fixAfterInsertion_142) ?_
  obtain ⟨b22, eb22, hf⟩ := oB hf
  obtain ⟨rb22, _, kb22⟩ := aIs_eq eb22
  obtain ⟨h24, ex23, hf⟩ := oB hf
  refine v_callU (pc := 145) (d_V (pc := 145) C (As := [va_rf x20]) (rest := []) rb22 kb22 nt_16 q1483 yi_J4_rotateRight_java_util_TreeMap yk_J4_rotateRight rfl (by decide) (by decide) (Nat.le_trans aw_0 (by decide)) rfl (mJ4_rotateRight C.st ex23) dJ4_fixAfterInsertion_145) ?_
  refine v_goto (pc := 148) (tgt := 5) C dJ4_fixAfterInsertion_148 rfl ?_
  exact V.sub [0, 1] rfl (k5 _ _ _ _ hf)
def fJ4_fixAfterInsertion_p225 (D : aD) (K5 : aH → (Option Nat) → (Option Nat) → Option (aH)) (h : aH) (a0 : Option Nat) (a1 : Option Nat) : Option (aH) :=
  (fJ4_parentOf D h a1).bind fun x2 =>
  (fJ4_setColor D h x2 (1 : Int32)).bind fun h6 =>
  (fJ4_parentOf D h6 a1).bind fun x8 =>
  (fJ4_parentOf D h6 x8).bind fun x11 =>
  (fJ4_setColor D h6 x11 (0 : Int32)).bind fun h15 =>
  (fJ4_parentOf D h15 a1).bind fun x17 =>
  (fJ4_parentOf D h15 x17).bind fun x20 =>
  (aIs h15 16 a0).bind fun _ =>
  (fJ4_rotateLeft D h15 a0 x20).bind fun h24 =>
  K5 h24 a0 a1
theorem vJ4_fixAfterInsertion_p225 {h : aH} {K5 : aH → (Option Nat) → (Option Nat) → Option (aH)} {a0 : Option Nat} {a1 : Option Nat} {g : aH} (X : aX p l R s m meth c D n0 s0 yJ4_fixAfterInsertion cJ4_fixAfterInsertion 1 22 3 (none) h0) (k5 : ∀ (h : aH) (a0 : Option Nat) (a1 : Option Nat) (g : aH), K5 h a0 a1 = some g → V p l e R s m args below meth c D n0 s0 (aEnd D below args s h0 (.inr none, g)) h 5 [(0, false, va_rf a0), (1, false, va_rf a1)] []) (hf : fJ4_fixAfterInsertion_p225 D K5 h a0 a1 = some g) : V p l e R s m args below meth c D n0 s0 (aEnd D below args s h0 (.inr none, g)) h 225 [(0, false, va_rf a0), (1, false, va_rf a1)] [] := by
  have C := X.1
  unfold fJ4_fixAfterInsertion_p225 at hf
  refine v_aload_n (pc := 225) (j := 1) C dJ4_fixAfterInsertion_225 rfl rfl ?_
  obtain ⟨x2, ex2, hf⟩ := oB hf
  refine v_call (pc := 226) (d_S (pc := 226) C (As := [va_rf a1]) (rest := []) q1464 q1465 yk_J4_parentOf rfl (by decide) (by decide) (Nat.le_trans aw_0 (by decide)) rfl (mJ4_parentOf C.st ex2) dJ4_fixAfterInsertion_226) ?_
  refine v_iconst (pc := 229) (v := (1 : Int32)) C dJ4_fixAfterInsertion_229 rfl ?_
  obtain ⟨h6, ex5, hf⟩ := oB hf
  refine v_callU (pc := 230) (d_S (pc := 230) C (As := [va_rf x2, .int (1 : Int32)]) (rest := []) q1476 q1477 yk_J4_setColor rfl (by decide) (by decide) (Nat.le_trans aw_0 (by decide)) rfl (mJ4_setColor C.st ex5) dJ4_fixAfterInsertion_230) ?_
  refine v_aload_n (pc := 233) (j := 1) C dJ4_fixAfterInsertion_233 rfl rfl ?_
  obtain ⟨x8, ex8, hf⟩ := oB hf
  refine v_call (pc := 234) (d_S (pc := 234) C (As := [va_rf a1]) (rest := []) q1464 q1465 yk_J4_parentOf rfl (by decide) (by decide) (Nat.le_trans aw_0 (by decide)) rfl (mJ4_parentOf C.st ex8) dJ4_fixAfterInsertion_234) ?_
  obtain ⟨x11, ex11, hf⟩ := oB hf
  refine v_call (pc := 237) (d_S (pc := 237) C (As := [va_rf x8]) (rest := []) q1464 q1465 yk_J4_parentOf rfl (by decide) (by decide) (Nat.le_trans aw_0 (by decide)) rfl (mJ4_parentOf C.st ex11) dJ4_fixAfterInsertion_237) ?_
  refine v_iconst (pc := 240) (v := (0 : Int32)) C dJ4_fixAfterInsertion_240 rfl ?_
  obtain ⟨h15, ex14, hf⟩ := oB hf
  refine v_callU (pc := 241) (d_S (pc := 241) C (As := [va_rf x11, .int (0 : Int32)]) (rest := []) q1476 q1477 yk_J4_setColor rfl (by decide) (by decide) (Nat.le_trans aw_0 (by decide)) rfl (mJ4_setColor C.st ex14) dJ4_fixAfterInsertion_241) ?_
  refine v_aload_n (pc := 244) (j := 0) C dJ4_fixAfterInsertion_244 rfl rfl ?_
  refine v_aload_n (pc := 245) (j := 1) C dJ4_fixAfterInsertion_245 rfl rfl ?_
  obtain ⟨x17, ex17, hf⟩ := oB hf
  refine v_call (pc := 246) (d_S (pc := 246) C (As := [va_rf a1]) (rest := [va_rf a0]) q1464 q1465 yk_J4_parentOf rfl (by decide) (by decide) (Nat.le_trans (aw_r aw_0) (by decide)) rfl (mJ4_parentOf C.st ex17) dJ4_fixAfterInsertion_246) ?_
  obtain ⟨x20, ex20, hf⟩ := oB hf
  refine v_call (pc := 249) (d_S (pc := 249) C (As := [va_rf x17]) (rest := [va_rf a0]) q1464 q1465 yk_J4_parentOf rfl (by decide) (by decide) (Nat.le_trans (aw_r aw_0) (by decide)) rfl (mJ4_parentOf C.st ex20) dJ4_fixAfterInsertion_249) ?_
  obtain ⟨b22, eb22, hf⟩ := oB hf
  obtain ⟨rb22, _, kb22⟩ := aIs_eq eb22
  obtain ⟨h24, ex23, hf⟩ := oB hf
  refine v_callU (pc := 252) (d_V (pc := 252) C (As := [va_rf x20]) (rest := []) rb22 kb22 nt_16 q1479 yi_J4_rotateLeft_java_util_TreeMap yk_J4_rotateLeft rfl (by decide) (by decide) (Nat.le_trans aw_0 (by decide)) rfl (mJ4_rotateLeft C.st ex23) dJ4_fixAfterInsertion_252) ?_
  refine v_goto (pc := 255) (tgt := 5) C dJ4_fixAfterInsertion_255 rfl ?_
  exact V.sub [0, 1] rfl (k5 _ _ _ _ hf)
def fJ4_fixAfterInsertion_p258 (D : aD) (h : aH) (a0 : Option Nat) : Option (aH) :=
  (gR h 16 3 a0).bind fun x1 =>
  (pF D h 17 5 x1 (.int (1 : Int32))).bind fun h2 =>
  some h2
theorem vJ4_fixAfterInsertion_p258 {h : aH} {a0 : Option Nat} {g : aH} (X : aX p l R s m meth c D n0 s0 yJ4_fixAfterInsertion cJ4_fixAfterInsertion 1 22 3 (none) h0) (hf : fJ4_fixAfterInsertion_p258 D h a0 = some g) : V p l e R s m args below meth c D n0 s0 (aEnd D below args s h0 (.inr none, g)) h 258 [(0, false, va_rf a0)] [] := by
  have C := X.1
  unfold fJ4_fixAfterInsertion_p258 at hf
  refine v_aload_n (pc := 258) (j := 0) C dJ4_fixAfterInsertion_258 rfl rfl ?_
  obtain ⟨x1, ex1, hf⟩ := oB hf
  refine v_getF (pc := 259) C lk_J4_101 (gR_eq ex1) dJ4_fixAfterInsertion_259 ?_
  refine v_iconst (pc := 262) (v := (1 : Int32)) C dJ4_fixAfterInsertion_262 rfl ?_
  obtain ⟨h2, eh2, hf⟩ := oB hf
  refine v_putF (pc := 263) C lk_J4_290 tyJ34 tyJ34_ok nmJ34 (tyJ34_ok 5 (by decide)) (nr_z (by decide)) (ft_z (by decide)) eh2 dJ4_fixAfterInsertion_263 ?_
  cases hf
  exact v_return (pc := 266) C X.2.1 X.2.2.1 X.2.2.2.1 rfl dJ4_fixAfterInsertion_266
def fJ4_fixAfterInsertion_p5 (D : aD) : Nat → aH → (Option Nat) → (Option Nat) → Option (aH)
  | 0, _, _, _ => none
  | n + 1, h, a0, a1 =>
  if a1 = none then
  (fJ4_fixAfterInsertion_p258 D h a0)
  else
  ((gR h 16 3 a0).bind fun x1 =>
  if a1 = x1 then
  (fJ4_fixAfterInsertion_p258 D h a0)
  else
  ((gR h 17 4 a1).bind fun x2 =>
  (gI h 17 5 x2).bind fun x3 =>
  if x3 = 0 then
  ((fJ4_parentOf D h a1).bind fun x5 =>
  (fJ4_parentOf D h a1).bind fun x8 =>
  (fJ4_parentOf D h x8).bind fun x11 =>
  (fJ4_leftOf D h x11).bind fun x14 =>
  if x5 = x14 then
  ((fJ4_parentOf D h a1).bind fun x65 =>
  (fJ4_parentOf D h x65).bind fun x68 =>
  (fJ4_rightOf D h x68).bind fun x71 =>
  (fJ4_colorOf D h x71).bind fun x74 =>
  if x74 = 0 then
  ((fJ4_parentOf D h a1).bind fun x89 =>
  (fJ4_setColor D h x89 (1 : Int32)).bind fun h93 =>
  (fJ4_setColor D h93 x71 (1 : Int32)).bind fun h96 =>
  (fJ4_parentOf D h96 a1).bind fun x98 =>
  (fJ4_parentOf D h96 x98).bind fun x101 =>
  (fJ4_setColor D h96 x101 (0 : Int32)).bind fun h105 =>
  (fJ4_parentOf D h105 a1).bind fun x107 =>
  (fJ4_parentOf D h105 x107).bind fun x110 =>
  fJ4_fixAfterInsertion_p5 D n h105 a0 x110)
  else
  ((fJ4_parentOf D h a1).bind fun x77 =>
  (fJ4_rightOf D h x77).bind fun x80 =>
  if a1 = x80 then
  ((fJ4_parentOf D h a1).bind fun x83 =>
  (aIs h 16 a0).bind fun _ =>
  (fJ4_rotateLeft D h a0 x83).bind fun h87 =>
  fJ4_fixAfterInsertion_p118 D (fJ4_fixAfterInsertion_p5 D n) h87 a0 x83)
  else
  (fJ4_fixAfterInsertion_p118 D (fJ4_fixAfterInsertion_p5 D n) h a0 a1)))
  else
  ((fJ4_parentOf D h a1).bind fun x17 =>
  (fJ4_parentOf D h x17).bind fun x20 =>
  (fJ4_leftOf D h x20).bind fun x23 =>
  (fJ4_colorOf D h x23).bind fun x26 =>
  if x26 = 0 then
  ((fJ4_parentOf D h a1).bind fun x41 =>
  (fJ4_setColor D h x41 (1 : Int32)).bind fun h45 =>
  (fJ4_setColor D h45 x23 (1 : Int32)).bind fun h48 =>
  (fJ4_parentOf D h48 a1).bind fun x50 =>
  (fJ4_parentOf D h48 x50).bind fun x53 =>
  (fJ4_setColor D h48 x53 (0 : Int32)).bind fun h57 =>
  (fJ4_parentOf D h57 a1).bind fun x59 =>
  (fJ4_parentOf D h57 x59).bind fun x62 =>
  fJ4_fixAfterInsertion_p5 D n h57 a0 x62)
  else
  ((fJ4_parentOf D h a1).bind fun x29 =>
  (fJ4_leftOf D h x29).bind fun x32 =>
  if a1 = x32 then
  ((fJ4_parentOf D h a1).bind fun x35 =>
  (aIs h 16 a0).bind fun _ =>
  (fJ4_rotateRight D h a0 x35).bind fun h39 =>
  fJ4_fixAfterInsertion_p225 D (fJ4_fixAfterInsertion_p5 D n) h39 a0 x35)
  else
  (fJ4_fixAfterInsertion_p225 D (fJ4_fixAfterInsertion_p5 D n) h a0 a1))))
  else
  (fJ4_fixAfterInsertion_p258 D h a0)))
theorem vJ4_fixAfterInsertion_p5 (X : aX p l R s m meth c D n0 s0 yJ4_fixAfterInsertion cJ4_fixAfterInsertion 1 22 3 (none) h0) : ∀ (n : Nat) (h : aH) (a0 : Option Nat) (a1 : Option Nat) (g : aH), fJ4_fixAfterInsertion_p5 D n h a0 a1 = some g → V p l e R s m args below meth c D n0 s0 (aEnd D below args s h0 (.inr none, g)) h 5 [(0, false, va_rf a0), (1, false, va_rf a1)] [] := by
  have C := X.1
  intro n
  induction n with
  | zero =>
    intro _ _ _ _ hf
    rw [fJ4_fixAfterInsertion_p5] at hf
    cases hf
  | succ n ih =>
    intro h a0 a1 g hf
    rw [fJ4_fixAfterInsertion_p5] at hf
    refine v_aload_n (pc := 5) (j := 1) C dJ4_fixAfterInsertion_5 rfl rfl ?_
    refine v_ifnull (pc := 6) (tgt := 258) C dJ4_fixAfterInsertion_6 rfl (fun hc => ?_) (fun hc => ?_)
    · rw [if_pos hc] at hf
      exact V.sub [0] rfl (vJ4_fixAfterInsertion_p258 X hf)
    · rw [if_neg hc] at hf
      refine v_aload_n (pc := 9) (j := 1) C dJ4_fixAfterInsertion_9 rfl rfl ?_
      refine v_aload_n (pc := 10) (j := 0) C dJ4_fixAfterInsertion_10 rfl rfl ?_
      obtain ⟨x1, ex1, hf⟩ := oB hf
      refine v_getF (pc := 11) C lk_J4_101 (gR_eq ex1) dJ4_fixAfterInsertion_11 ?_
      refine v_acmp_eq (pc := 14) (tgt := 258) C dJ4_fixAfterInsertion_14 rfl (fun hc => ?_) (fun hc => ?_)
      · rw [if_pos hc] at hf
        exact V.sub [0] rfl (vJ4_fixAfterInsertion_p258 X hf)
      · rw [if_neg hc] at hf
        refine v_aload_n (pc := 17) (j := 1) C dJ4_fixAfterInsertion_17 rfl rfl ?_
        obtain ⟨x2, ex2, hf⟩ := oB hf
        refine v_getF (pc := 18) C lk_J4_124 (gR_eq ex2) dJ4_fixAfterInsertion_18 ?_
        obtain ⟨x3, ex3, hf⟩ := oB hf
        refine v_getF (pc := 21) C lk_J4_290 (gI_eq ex3) dJ4_fixAfterInsertion_21 ?_
        refine v_if_ne (pc := 24) (tgt := 258) C dJ4_fixAfterInsertion_24 rfl (fun hc => ?_) (fun hc => ?_)
        · rw [if_neg hc] at hf
          exact V.sub [0] rfl (vJ4_fixAfterInsertion_p258 X hf)
        · rw [if_pos (Decidable.of_not_not hc)] at hf
          refine v_aload_n (pc := 27) (j := 1) C dJ4_fixAfterInsertion_27 rfl rfl ?_
          obtain ⟨x5, ex5, hf⟩ := oB hf
          refine v_call (pc := 28) (d_S (pc := 28) C (As := [va_rf a1]) (rest := []) q1464 q1465 yk_J4_parentOf rfl (by decide) (by decide) (Nat.le_trans aw_0 (by decide)) rfl (mJ4_parentOf C.st ex5) dJ4_fixAfterInsertion_28) ?_
          refine v_aload_n (pc := 31) (j := 1) C dJ4_fixAfterInsertion_31 rfl rfl ?_
          obtain ⟨x8, ex8, hf⟩ := oB hf
          refine v_call (pc := 32) (d_S (pc := 32) C (As := [va_rf a1]) (rest := [va_rf x5]) q1464 q1465 yk_J4_parentOf rfl (by decide) (by decide) (Nat.le_trans (aw_r aw_0) (by decide)) rfl (mJ4_parentOf C.st ex8) dJ4_fixAfterInsertion_32) ?_
          obtain ⟨x11, ex11, hf⟩ := oB hf
          refine v_call (pc := 35) (d_S (pc := 35) C (As := [va_rf x8]) (rest := [va_rf x5]) q1464 q1465 yk_J4_parentOf rfl (by decide) (by decide) (Nat.le_trans (aw_r aw_0) (by decide)) rfl (mJ4_parentOf C.st ex11) dJ4_fixAfterInsertion_35) ?_
          obtain ⟨x14, ex14, hf⟩ := oB hf
          refine v_call (pc := 38) (d_S (pc := 38) C (As := [va_rf x11]) (rest := [va_rf x5]) q1467 q1468 yk_J4_leftOf rfl (by decide) (by decide) (Nat.le_trans (aw_r aw_0) (by decide)) rfl (mJ4_leftOf C.st ex14) dJ4_fixAfterInsertion_38) ?_
          refine v_acmp_ne (pc := 41) (tgt := 151) C dJ4_fixAfterInsertion_41 rfl (fun hc => ?_) (fun hc => ?_)
          · rw [if_neg hc] at hf
            refine v_aload_n (pc := 151) (j := 1) C dJ4_fixAfterInsertion_151 rfl rfl ?_
            obtain ⟨x17, ex17, hf⟩ := oB hf
            refine v_call (pc := 152) (d_S (pc := 152) C (As := [va_rf a1]) (rest := []) q1464 q1465 yk_J4_parentOf rfl (by decide) (by decide) (Nat.le_trans aw_0 (by decide)) rfl (mJ4_parentOf C.st ex17) dJ4_fixAfterInsertion_152) ?_
            obtain ⟨x20, ex20, hf⟩ := oB hf
            refine v_call (pc := 155) (d_S (pc := 155) C (As := [va_rf x17]) (rest := []) q1464 q1465 yk_J4_parentOf rfl (by decide) (by decide) (Nat.le_trans aw_0 (by decide)) rfl (mJ4_parentOf C.st ex20) dJ4_fixAfterInsertion_155) ?_
            obtain ⟨x23, ex23, hf⟩ := oB hf
            refine v_call (pc := 158) (d_S (pc := 158) C (As := [va_rf x20]) (rest := []) q1467 q1468 yk_J4_leftOf rfl (by decide) (by decide) (Nat.le_trans aw_0 (by decide)) rfl (mJ4_leftOf C.st ex23) dJ4_fixAfterInsertion_158) ?_
            refine v_astore_n (pc := 161) (lv' := [(2, false, va_rf x23), (0, false, va_rf a0), (1, false, va_rf a1)]) C dJ4_fixAfterInsertion_161 rfl (by decide) rfl ?_
            refine v_aload_n (pc := 162) (j := 0) C dJ4_fixAfterInsertion_162 rfl rfl ?_
            obtain ⟨x26, ex26, hf⟩ := oB hf
            refine v_call (pc := 163) (d_S (pc := 163) C (As := [va_rf x23]) (rest := []) q1473 q1474 yk_J4_colorOf rfl (by decide) (by decide) (Nat.le_trans aw_0 (by decide)) rfl (mJ4_colorOf C.st ex26) dJ4_fixAfterInsertion_163) ?_
            refine v_if_ne (pc := 166) (tgt := 204) C dJ4_fixAfterInsertion_166 rfl (fun hc => ?_) (fun hc => ?_)
            · rw [if_neg hc] at hf
              refine v_aload_n (pc := 204) (j := 2) C dJ4_fixAfterInsertion_204 rfl rfl ?_
              refine v_aload_n (pc := 205) (j := 2) C dJ4_fixAfterInsertion_205 rfl rfl ?_
              obtain ⟨x29, ex29, hf⟩ := oB hf
              refine v_call (pc := 206) (d_S (pc := 206) C (As := [va_rf a1]) (rest := [va_rf a1]) q1464 q1465 yk_J4_parentOf rfl (by decide) (by decide) (Nat.le_trans (aw_r aw_0) (by decide)) rfl (mJ4_parentOf C.st ex29) dJ4_fixAfterInsertion_206) ?_
              obtain ⟨x32, ex32, hf⟩ := oB hf
              refine v_call (pc := 209) (d_S (pc := 209) C (As := [va_rf x29]) (rest := [va_rf a1]) q1467 q1468 yk_J4_leftOf rfl (by decide) (by decide) (Nat.le_trans (aw_r aw_0) (by decide)) rfl (mJ4_leftOf C.st ex32) dJ4_fixAfterInsertion_209) ?_
              refine v_acmp_ne (pc := 212) (tgt := 225) C dJ4_fixAfterInsertion_212 rfl (fun hc => ?_) (fun hc => ?_)
              · rw [if_neg hc] at hf
                exact V.sub [1, 2] rfl (vJ4_fixAfterInsertion_p225 X ih hf)
              · rw [if_pos (Decidable.of_not_not hc)] at hf
                refine v_aload_n (pc := 215) (j := 2) C dJ4_fixAfterInsertion_215 rfl rfl ?_
                obtain ⟨x35, ex35, hf⟩ := oB hf
                refine v_call (pc := 216) (d_S (pc := 216) C (As := [va_rf a1]) (rest := []) q1464 q1465 yk_J4_parentOf rfl (by decide) (by decide) (Nat.le_trans aw_0 (by decide)) rfl (mJ4_parentOf C.st ex35) dJ4_fixAfterInsertion_216) ?_
                refine v_astore_n (pc := 219) (lv' := [(1, false, va_rf x35), (2, false, va_rf x23), (0, false, va_rf a0)]) C dJ4_fixAfterInsertion_219 rfl (by decide) rfl ?_
                refine v_aload_n (pc := 220) (j := 2) C dJ4_fixAfterInsertion_220 rfl rfl ?_
                refine v_aload_n (pc := 221) (j := 0) C dJ4_fixAfterInsertion_221 rfl rfl ?_
                obtain ⟨b37, eb37, hf⟩ := oB hf
                obtain ⟨rb37, _, kb37⟩ := aIs_eq eb37
                obtain ⟨h39, ex38, hf⟩ := oB hf
                refine v_callU (pc := 222) (d_V (pc := 222) C (As := [va_rf x35]) (rest := []) rb37 kb37 nt_16 q1483 yi_J4_rotateRight_java_util_TreeMap yk_J4_rotateRight rfl (by decide) (by decide) (Nat.le_trans aw_0 (by decide)) rfl (mJ4_rotateRight C.st ex38) dJ4_fixAfterInsertion_222) ?_
                exact V.sub [2, 0] rfl (vJ4_fixAfterInsertion_p225 X ih hf)
            · rw [if_pos (Decidable.of_not_not hc)] at hf
              refine v_aload_n (pc := 169) (j := 2) C dJ4_fixAfterInsertion_169 rfl rfl ?_
              obtain ⟨x41, ex41, hf⟩ := oB hf
              refine v_call (pc := 170) (d_S (pc := 170) C (As := [va_rf a1]) (rest := []) q1464 q1465 yk_J4_parentOf rfl (by decide) (by decide) (Nat.le_trans aw_0 (by decide)) rfl (mJ4_parentOf C.st ex41) dJ4_fixAfterInsertion_170) ?_
              refine v_iconst (pc := 173) (v := (1 : Int32)) C dJ4_fixAfterInsertion_173 rfl ?_
              obtain ⟨h45, ex44, hf⟩ := oB hf
              refine v_callU (pc := 174) (d_S (pc := 174) C (As := [va_rf x41, .int (1 : Int32)]) (rest := []) q1476 q1477 yk_J4_setColor rfl (by decide) (by decide) (Nat.le_trans aw_0 (by decide)) rfl (mJ4_setColor C.st ex44) dJ4_fixAfterInsertion_174) ?_
              refine v_aload_n (pc := 177) (j := 0) C dJ4_fixAfterInsertion_177 rfl rfl ?_
              refine v_iconst (pc := 178) (v := (1 : Int32)) C dJ4_fixAfterInsertion_178 rfl ?_
              obtain ⟨h48, ex47, hf⟩ := oB hf
              refine v_callU (pc := 179) (d_S (pc := 179) C (As := [va_rf x23, .int (1 : Int32)]) (rest := []) q1476 q1477 yk_J4_setColor rfl (by decide) (by decide) (Nat.le_trans aw_0 (by decide)) rfl (mJ4_setColor C.st ex47) dJ4_fixAfterInsertion_179) ?_
              refine v_aload_n (pc := 182) (j := 2) C dJ4_fixAfterInsertion_182 rfl rfl ?_
              obtain ⟨x50, ex50, hf⟩ := oB hf
              refine v_call (pc := 183) (d_S (pc := 183) C (As := [va_rf a1]) (rest := []) q1464 q1465 yk_J4_parentOf rfl (by decide) (by decide) (Nat.le_trans aw_0 (by decide)) rfl (mJ4_parentOf C.st ex50) dJ4_fixAfterInsertion_183) ?_
              obtain ⟨x53, ex53, hf⟩ := oB hf
              refine v_call (pc := 186) (d_S (pc := 186) C (As := [va_rf x50]) (rest := []) q1464 q1465 yk_J4_parentOf rfl (by decide) (by decide) (Nat.le_trans aw_0 (by decide)) rfl (mJ4_parentOf C.st ex53) dJ4_fixAfterInsertion_186) ?_
              refine v_iconst (pc := 189) (v := (0 : Int32)) C dJ4_fixAfterInsertion_189 rfl ?_
              obtain ⟨h57, ex56, hf⟩ := oB hf
              refine v_callU (pc := 190) (d_S (pc := 190) C (As := [va_rf x53, .int (0 : Int32)]) (rest := []) q1476 q1477 yk_J4_setColor rfl (by decide) (by decide) (Nat.le_trans aw_0 (by decide)) rfl (mJ4_setColor C.st ex56) dJ4_fixAfterInsertion_190) ?_
              refine v_aload_n (pc := 193) (j := 2) C dJ4_fixAfterInsertion_193 rfl rfl ?_
              obtain ⟨x59, ex59, hf⟩ := oB hf
              refine v_call (pc := 194) (d_S (pc := 194) C (As := [va_rf a1]) (rest := []) q1464 q1465 yk_J4_parentOf rfl (by decide) (by decide) (Nat.le_trans aw_0 (by decide)) rfl (mJ4_parentOf C.st ex59) dJ4_fixAfterInsertion_194) ?_
              obtain ⟨x62, ex62, hf⟩ := oB hf
              refine v_call (pc := 197) (d_S (pc := 197) C (As := [va_rf x59]) (rest := []) q1464 q1465 yk_J4_parentOf rfl (by decide) (by decide) (Nat.le_trans aw_0 (by decide)) rfl (mJ4_parentOf C.st ex62) dJ4_fixAfterInsertion_197) ?_
              refine v_astore_n (pc := 200) (lv' := [(1, false, va_rf x62), (2, false, va_rf x23), (0, false, va_rf a0)]) C dJ4_fixAfterInsertion_200 rfl (by decide) rfl ?_
              refine v_goto (pc := 201) (tgt := 255) C dJ4_fixAfterInsertion_201 rfl ?_
              refine v_goto (pc := 255) (tgt := 5) C dJ4_fixAfterInsertion_255 rfl ?_
              exact V.sub [2, 0] rfl (ih _ _ _ _ hf)
          · rw [if_pos (Decidable.of_not_not hc)] at hf
            refine v_aload_n (pc := 44) (j := 1) C dJ4_fixAfterInsertion_44 rfl rfl ?_
            obtain ⟨x65, ex65, hf⟩ := oB hf
            refine v_call (pc := 45) (d_S (pc := 45) C (As := [va_rf a1]) (rest := []) q1464 q1465 yk_J4_parentOf rfl (by decide) (by decide) (Nat.le_trans aw_0 (by decide)) rfl (mJ4_parentOf C.st ex65) dJ4_fixAfterInsertion_45) ?_
            obtain ⟨x68, ex68, hf⟩ := oB hf
            refine v_call (pc := 48) (d_S (pc := 48) C (As := [va_rf x65]) (rest := []) q1464 q1465 yk_J4_parentOf rfl (by decide) (by decide) (Nat.le_trans aw_0 (by decide)) rfl (mJ4_parentOf C.st ex68) dJ4_fixAfterInsertion_48) ?_
            obtain ⟨x71, ex71, hf⟩ := oB hf
            refine v_call (pc := 51) (d_S (pc := 51) C (As := [va_rf x68]) (rest := []) q1470 q1471 yk_J4_rightOf rfl (by decide) (by decide) (Nat.le_trans aw_0 (by decide)) rfl (mJ4_rightOf C.st ex71) dJ4_fixAfterInsertion_51) ?_
            refine v_astore_n (pc := 54) (lv' := [(2, false, va_rf x71), (0, false, va_rf a0), (1, false, va_rf a1)]) C dJ4_fixAfterInsertion_54 rfl (by decide) rfl ?_
            refine v_aload_n (pc := 55) (j := 0) C dJ4_fixAfterInsertion_55 rfl rfl ?_
            obtain ⟨x74, ex74, hf⟩ := oB hf
            refine v_call (pc := 56) (d_S (pc := 56) C (As := [va_rf x71]) (rest := []) q1473 q1474 yk_J4_colorOf rfl (by decide) (by decide) (Nat.le_trans aw_0 (by decide)) rfl (mJ4_colorOf C.st ex74) dJ4_fixAfterInsertion_56) ?_
            refine v_if_ne (pc := 59) (tgt := 97) C dJ4_fixAfterInsertion_59 rfl (fun hc => ?_) (fun hc => ?_)
            · rw [if_neg hc] at hf
              refine v_aload_n (pc := 97) (j := 2) C dJ4_fixAfterInsertion_97 rfl rfl ?_
              refine v_aload_n (pc := 98) (j := 2) C dJ4_fixAfterInsertion_98 rfl rfl ?_
              obtain ⟨x77, ex77, hf⟩ := oB hf
              refine v_call (pc := 99) (d_S (pc := 99) C (As := [va_rf a1]) (rest := [va_rf a1]) q1464 q1465 yk_J4_parentOf rfl (by decide) (by decide) (Nat.le_trans (aw_r aw_0) (by decide)) rfl (mJ4_parentOf C.st ex77) dJ4_fixAfterInsertion_99) ?_
              obtain ⟨x80, ex80, hf⟩ := oB hf
              refine v_call (pc := 102) (d_S (pc := 102) C (As := [va_rf x77]) (rest := [va_rf a1]) q1470 q1471 yk_J4_rightOf rfl (by decide) (by decide) (Nat.le_trans (aw_r aw_0) (by decide)) rfl (mJ4_rightOf C.st ex80) dJ4_fixAfterInsertion_102) ?_
              refine v_acmp_ne (pc := 105) (tgt := 118) C dJ4_fixAfterInsertion_105 rfl (fun hc => ?_) (fun hc => ?_)
              · rw [if_neg hc] at hf
                exact V.sub [1, 2] rfl (vJ4_fixAfterInsertion_p118 X ih hf)
              · rw [if_pos (Decidable.of_not_not hc)] at hf
                refine v_aload_n (pc := 108) (j := 2) C dJ4_fixAfterInsertion_108 rfl rfl ?_
                obtain ⟨x83, ex83, hf⟩ := oB hf
                refine v_call (pc := 109) (d_S (pc := 109) C (As := [va_rf a1]) (rest := []) q1464 q1465 yk_J4_parentOf rfl (by decide) (by decide) (Nat.le_trans aw_0 (by decide)) rfl (mJ4_parentOf C.st ex83) dJ4_fixAfterInsertion_109) ?_
                refine v_astore_n (pc := 112) (lv' := [(1, false, va_rf x83), (2, false, va_rf x71), (0, false, va_rf a0)]) C dJ4_fixAfterInsertion_112 rfl (by decide) rfl ?_
                refine v_aload_n (pc := 113) (j := 2) C dJ4_fixAfterInsertion_113 rfl rfl ?_
                refine v_aload_n (pc := 114) (j := 0) C dJ4_fixAfterInsertion_114 rfl rfl ?_
                obtain ⟨b85, eb85, hf⟩ := oB hf
                obtain ⟨rb85, _, kb85⟩ := aIs_eq eb85
                obtain ⟨h87, ex86, hf⟩ := oB hf
                refine v_callU (pc := 115) (d_V (pc := 115) C (As := [va_rf x83]) (rest := []) rb85 kb85 nt_16 q1479 yi_J4_rotateLeft_java_util_TreeMap yk_J4_rotateLeft rfl (by decide) (by decide) (Nat.le_trans aw_0 (by decide)) rfl (mJ4_rotateLeft C.st ex86) dJ4_fixAfterInsertion_115) ?_
                exact V.sub [2, 0] rfl (vJ4_fixAfterInsertion_p118 X ih hf)
            · rw [if_pos (Decidable.of_not_not hc)] at hf
              refine v_aload_n (pc := 62) (j := 2) C dJ4_fixAfterInsertion_62 rfl rfl ?_
              obtain ⟨x89, ex89, hf⟩ := oB hf
              refine v_call (pc := 63) (d_S (pc := 63) C (As := [va_rf a1]) (rest := []) q1464 q1465 yk_J4_parentOf rfl (by decide) (by decide) (Nat.le_trans aw_0 (by decide)) rfl (mJ4_parentOf C.st ex89) dJ4_fixAfterInsertion_63) ?_
              refine v_iconst (pc := 66) (v := (1 : Int32)) C dJ4_fixAfterInsertion_66 rfl ?_
              obtain ⟨h93, ex92, hf⟩ := oB hf
              refine v_callU (pc := 67) (d_S (pc := 67) C (As := [va_rf x89, .int (1 : Int32)]) (rest := []) q1476 q1477 yk_J4_setColor rfl (by decide) (by decide) (Nat.le_trans aw_0 (by decide)) rfl (mJ4_setColor C.st ex92) dJ4_fixAfterInsertion_67) ?_
              refine v_aload_n (pc := 70) (j := 0) C dJ4_fixAfterInsertion_70 rfl rfl ?_
              refine v_iconst (pc := 71) (v := (1 : Int32)) C dJ4_fixAfterInsertion_71 rfl ?_
              obtain ⟨h96, ex95, hf⟩ := oB hf
              refine v_callU (pc := 72) (d_S (pc := 72) C (As := [va_rf x71, .int (1 : Int32)]) (rest := []) q1476 q1477 yk_J4_setColor rfl (by decide) (by decide) (Nat.le_trans aw_0 (by decide)) rfl (mJ4_setColor C.st ex95) dJ4_fixAfterInsertion_72) ?_
              refine v_aload_n (pc := 75) (j := 2) C dJ4_fixAfterInsertion_75 rfl rfl ?_
              obtain ⟨x98, ex98, hf⟩ := oB hf
              refine v_call (pc := 76) (d_S (pc := 76) C (As := [va_rf a1]) (rest := []) q1464 q1465 yk_J4_parentOf rfl (by decide) (by decide) (Nat.le_trans aw_0 (by decide)) rfl (mJ4_parentOf C.st ex98) dJ4_fixAfterInsertion_76) ?_
              obtain ⟨x101, ex101, hf⟩ := oB hf
              refine v_call (pc := 79) (d_S (pc := 79) C (As := [va_rf x98]) (rest := []) q1464 q1465 yk_J4_parentOf rfl (by decide) (by decide) (Nat.le_trans aw_0 (by decide)) rfl (mJ4_parentOf C.st ex101) dJ4_fixAfterInsertion_79) ?_
              refine v_iconst (pc := 82) (v := (0 : Int32)) C dJ4_fixAfterInsertion_82 rfl ?_
              obtain ⟨h105, ex104, hf⟩ := oB hf
              refine v_callU (pc := 83) (d_S (pc := 83) C (As := [va_rf x101, .int (0 : Int32)]) (rest := []) q1476 q1477 yk_J4_setColor rfl (by decide) (by decide) (Nat.le_trans aw_0 (by decide)) rfl (mJ4_setColor C.st ex104) dJ4_fixAfterInsertion_83) ?_
              refine v_aload_n (pc := 86) (j := 2) C dJ4_fixAfterInsertion_86 rfl rfl ?_
              obtain ⟨x107, ex107, hf⟩ := oB hf
              refine v_call (pc := 87) (d_S (pc := 87) C (As := [va_rf a1]) (rest := []) q1464 q1465 yk_J4_parentOf rfl (by decide) (by decide) (Nat.le_trans aw_0 (by decide)) rfl (mJ4_parentOf C.st ex107) dJ4_fixAfterInsertion_87) ?_
              obtain ⟨x110, ex110, hf⟩ := oB hf
              refine v_call (pc := 90) (d_S (pc := 90) C (As := [va_rf x107]) (rest := []) q1464 q1465 yk_J4_parentOf rfl (by decide) (by decide) (Nat.le_trans aw_0 (by decide)) rfl (mJ4_parentOf C.st ex110) dJ4_fixAfterInsertion_90) ?_
              refine v_astore_n (pc := 93) (lv' := [(1, false, va_rf x110), (2, false, va_rf x71), (0, false, va_rf a0)]) C dJ4_fixAfterInsertion_93 rfl (by decide) rfl ?_
              refine v_goto (pc := 94) (tgt := 148) C dJ4_fixAfterInsertion_94 rfl ?_
              refine v_goto (pc := 148) (tgt := 5) C dJ4_fixAfterInsertion_148 rfl ?_
              exact V.sub [2, 0] rfl (ih _ _ _ _ hf)
def fJ4_fixAfterInsertion (D : aD) (h : aH) (a0 : Option Nat) (a1 : Option Nat) : Option (aH) :=
  (pF D h 17 5 a1 (.int (0 : Int32))).bind fun h1 =>
  fJ4_fixAfterInsertion_p5 D FU h1 a0 a1
theorem vJ4_fixAfterInsertion {h : aH} {a0 : Option Nat} {a1 : Option Nat} {g : aH} (X : aX p l R s m meth c D n0 s0 yJ4_fixAfterInsertion cJ4_fixAfterInsertion 1 22 3 (none) h0) (hf : fJ4_fixAfterInsertion D h a0 a1 = some g) : V p l e R s m args below meth c D n0 s0 (aEnd D below args s h0 (.inr none, g)) h 0 [(0, false, va_rf a0), (1, false, va_rf a1)] [] := by
  have C := X.1
  unfold fJ4_fixAfterInsertion at hf
  refine v_aload_n (pc := 0) (j := 1) C dJ4_fixAfterInsertion_0 rfl rfl ?_
  refine v_iconst (pc := 1) (v := (0 : Int32)) C dJ4_fixAfterInsertion_1 rfl ?_
  obtain ⟨h1, eh1, hf⟩ := oB hf
  refine v_putF (pc := 2) C lk_J4_290 tyJ34 tyJ34_ok nmJ34 (tyJ34_ok 5 (by decide)) (nr_z (by decide)) (ft_z (by decide)) eh1 dJ4_fixAfterInsertion_2 ?_
  exact V.sub [0, 1] rfl (vJ4_fixAfterInsertion_p5 X _ _ _ _ _ hf)
theorem mJ4_fixAfterInsertion {l : Launch} {D : aD} {h : aH} {a0 : Option Nat} {a1 : Option Nat} {g : aH} (hst : l.stackTraces = false) (hf : fJ4_fixAfterInsertion D h a0 a1 = some g) : aM l D yJ4_fixAfterInsertion cJ4_fixAfterInsertion 3 (none) 1 22 [va_rf a0, va_rf a1] h (.inr none, g) :=
  aM.ofX [(false, va_rf a0), (false, va_rf a1)] rfl (ap_r (ap_r ap_0)) (by decide +kernel) hst (al_of (aw_r (aw_r aw_0)) (by decide)) fun p e s m args below meth c X => V.sub (lv' := [(0, false, va_rf a0), (1, false, va_rf a1)]) [0, 1] rfl (vJ4_fixAfterInsertion X hf)
def fJ4_addEntry_p32 (D : aD) (h : aH) (a0 : Option Nat) (a5 : Option Nat) : Option (aH) :=
  (aIs h 16 a0).bind fun _ =>
  (fJ4_fixAfterInsertion D h a0 a5).bind fun h3 =>
  (gI h3 16 4 a0).bind fun x4 =>
  (pF D h3 16 4 a0 (.int (x4 + (1 : Int32)))).bind fun h5 =>
  (gI h5 16 5 a0).bind fun x6 =>
  (pF D h5 16 5 a0 (.int (x6 + (1 : Int32)))).bind fun h7 =>
  some h7
theorem vJ4_addEntry_p32 {h : aH} {a0 : Option Nat} {a5 : Option Nat} {g : aH} (X : aX p l R s m meth c D n0 s0 yJ4_addEntry cJ4_addEntry 2 44 6 (none) h0) (hf : fJ4_addEntry_p32 D h a0 a5 = some g) : V p l e R s m args below meth c D n0 s0 (aEnd D below args s h0 (.inr none, g)) h 32 [(0, false, va_rf a0), (5, false, va_rf a5)] [] := by
  have C := X.1
  unfold fJ4_addEntry_p32 at hf
  refine v_aload_n (pc := 32) (j := 0) C dJ4_addEntry_32 rfl rfl ?_
  refine v_aload (pc := 33) (j := 1) C dJ4_addEntry_33 rfl ?_
  obtain ⟨b1, eb1, hf⟩ := oB hf
  obtain ⟨rb1, _, kb1⟩ := aIs_eq eb1
  obtain ⟨h3, ex2, hf⟩ := oB hf
  refine v_callU (pc := 35) (d_V (pc := 35) C (As := [va_rf a5]) (rest := []) rb1 kb1 nt_16 q1460 yi_J4_fixAfterInsertion_java_util_TreeMap yk_J4_fixAfterInsertion rfl (by decide) (by decide) (Nat.le_trans aw_0 (by decide)) rfl (mJ4_fixAfterInsertion C.st ex2) dJ4_addEntry_35) ?_
  refine v_aload_n (pc := 38) (j := 0) C dJ4_addEntry_38 rfl rfl ?_
  refine v_dup (pc := 39) C dJ4_addEntry_39 (va_rfc _) ?_
  obtain ⟨x4, ex4, hf⟩ := oB hf
  refine v_getF (pc := 40) C lk_J4_7 (gI_eq ex4) dJ4_addEntry_40 ?_
  refine v_iconst (pc := 43) (v := (1 : Int32)) C dJ4_addEntry_43 rfl ?_
  refine v_iadd (pc := 44) C dJ4_addEntry_44 ?_
  obtain ⟨h5, eh5, hf⟩ := oB hf
  refine v_putF (pc := 45) C lk_J4_7 tyJ4 tyJ4_ok nmJ4 (tyJ4_ok 4 (by decide)) rfl rfl eh5 dJ4_addEntry_45 ?_
  refine v_aload_n (pc := 48) (j := 0) C dJ4_addEntry_48 rfl rfl ?_
  refine v_dup (pc := 49) C dJ4_addEntry_49 (va_rfc _) ?_
  obtain ⟨x6, ex6, hf⟩ := oB hf
  refine v_getF (pc := 50) C lk_J4_13 (gI_eq ex6) dJ4_addEntry_50 ?_
  refine v_iconst (pc := 53) (v := (1 : Int32)) C dJ4_addEntry_53 rfl ?_
  refine v_iadd (pc := 54) C dJ4_addEntry_54 ?_
  obtain ⟨h7, eh7, hf⟩ := oB hf
  refine v_putF (pc := 55) C lk_J4_13 tyJ4 tyJ4_ok nmJ4 (tyJ4_ok 5 (by decide)) rfl rfl eh7 dJ4_addEntry_55 ?_
  cases hf
  exact v_return (pc := 58) C X.2.1 X.2.2.1 X.2.2.2.1 rfl dJ4_addEntry_58
def fJ4_addEntry (D : aD) (h : aH) (a0 : Option Nat) (a1 : Option Nat) (a2 : Option Nat) (a3 : Option Nat) (a4 : Int32) : Option (aH) :=
  (aMk D h (17, dfJ34)).bind fun h1 =>
  (fJ34_init D h1 (some h.1) a1 a2 a3).bind fun h4 =>
  if a4 = 0 then
  ((pF D h4 17 3 a3 (va_rf (some h.1))).bind fun h5 =>
  fJ4_addEntry_p32 D h5 a0 (some h.1))
  else
  ((pF D h4 17 2 a3 (va_rf (some h.1))).bind fun h6 =>
  fJ4_addEntry_p32 D h6 a0 (some h.1))
theorem vJ4_addEntry {h : aH} {a0 : Option Nat} {a1 : Option Nat} {a2 : Option Nat} {a3 : Option Nat} {a4 : Int32} {g : aH} (X : aX p l R s m meth c D n0 s0 yJ4_addEntry cJ4_addEntry 2 44 6 (none) h0) (hf : fJ4_addEntry D h a0 a1 a2 a3 a4 = some g) : V p l e R s m args below meth c D n0 s0 (aEnd D below args s h0 (.inr none, g)) h 0 [(0, false, va_rf a0), (1, false, va_rf a1), (2, false, va_rf a2), (3, false, va_rf a3), (4, false, .int a4)] [] := by
  have C := X.1
  unfold fJ4_addEntry at hf
  obtain ⟨h1, eh1, hf⟩ := oB hf
  refine v_new (pc := 0) (t := 17) (fs := dfJ34) (T := TJ34) (N := 6) C rfl in_J34 tyJ34 tyJ34_ok q1422 q1423 q119 dfJ34_ok rfl eh1 dJ4_addEntry_0 ?_
  refine v_dup (pc := 3) C dJ4_addEntry_3 (va_rfc _) ?_
  refine v_aload_n (pc := 4) (j := 1) C dJ4_addEntry_4 rfl rfl ?_
  refine v_aload_n (pc := 5) (j := 2) C dJ4_addEntry_5 rfl rfl ?_
  refine v_aload_n (pc := 6) (j := 3) C dJ4_addEntry_6 rfl rfl ?_
  obtain ⟨h4, ex3, hf⟩ := oB hf
  refine v_callU (pc := 7) (d_I (pc := 7) C (As := [va_rf a1, va_rf a2, va_rf a3]) (rest := [va_rf (some h.1)]) rfl rfl rfl q1424 q1425 yk_J34_init rfl (by decide) (by decide) (Nat.le_trans (aw_r aw_0) (by decide)) rfl (mJ34_init C.st ex3) dJ4_addEntry_7) ?_
  refine v_astore (pc := 10) (lv' := [(5, false, va_rf (some h.1)), (0, false, va_rf a0), (1, false, va_rf a1), (2, false, va_rf a2), (3, false, va_rf a3), (4, false, .int a4)]) C dJ4_addEntry_10 (by decide) rfl ?_
  refine v_iload (pc := 12) (j := 5) C dJ4_addEntry_12 rfl ?_
  refine v_if_eq (pc := 14) (tgt := 26) C dJ4_addEntry_14 rfl (fun hc => ?_) (fun hc => ?_)
  · rw [if_pos hc] at hf
    refine v_aload_n (pc := 26) (j := 4) C dJ4_addEntry_26 rfl rfl ?_
    refine v_aload (pc := 27) (j := 0) C dJ4_addEntry_27 rfl ?_
    obtain ⟨h5, eh5, hf⟩ := oB hf
    refine v_putF (pc := 29) C lk_J4_114 tyJ34 tyJ34_ok nmJ34 (tyJ34_ok 3 (by decide)) rfl ft_o eh5 dJ4_addEntry_29 ?_
    exact V.sub [1, 0] rfl (vJ4_addEntry_p32 X hf)
  · rw [if_neg hc] at hf
    refine v_aload_n (pc := 17) (j := 4) C dJ4_addEntry_17 rfl rfl ?_
    refine v_aload (pc := 18) (j := 0) C dJ4_addEntry_18 rfl ?_
    obtain ⟨h6, eh6, hf⟩ := oB hf
    refine v_putF (pc := 20) C lk_J4_111 tyJ34 tyJ34_ok nmJ34 (tyJ34_ok 2 (by decide)) rfl ft_o eh6 dJ4_addEntry_20 ?_
    refine v_goto (pc := 23) (tgt := 32) C dJ4_addEntry_23 rfl ?_
    exact V.sub [1, 0] rfl (vJ4_addEntry_p32 X hf)
theorem mJ4_addEntry {l : Launch} {D : aD} {h : aH} {a0 : Option Nat} {a1 : Option Nat} {a2 : Option Nat} {a3 : Option Nat} {a4 : Int32} {g : aH} (hst : l.stackTraces = false) (hf : fJ4_addEntry D h a0 a1 a2 a3 a4 = some g) : aM l D yJ4_addEntry cJ4_addEntry 6 (none) 2 44 [va_rf a0, va_rf a1, va_rf a2, va_rf a3, .int a4] h (.inr none, g) :=
  aM.ofX [(false, va_rf a0), (false, va_rf a1), (false, va_rf a2), (false, va_rf a3), (false, .int a4)] rfl (ap_r (ap_r (ap_r (ap_r (ap_c rfl ap_0))))) (by decide +kernel) hst (al_of (aw_r (aw_r (aw_r (aw_r (aw_i aw_0))))) (by decide)) fun p e s m args below meth c X => V.sub (lv' := [(0, false, va_rf a0), (1, false, va_rf a1), (2, false, va_rf a2), (3, false, va_rf a3), (4, false, .int a4)]) [0, 1, 2, 3, 4] rfl (vJ4_addEntry X hf)
def fJ16_requireNonNull (D : aD) (h : aH) (a0 : Option Nat) : Option (Option Nat) :=
  if a0 = none then
  (none)
  else
  (some a0)
theorem vJ16_requireNonNull {h : aH} {a0 : Option Nat} {q : Option Nat} (X : aX p l R s m meth c D n0 s0 yJ16_requireNonNull cJ16_requireNonNull 0 0 1 (some (.object "java/lang/Object")) h0) (hf : fJ16_requireNonNull D h a0 = some q) : V p l e R s m args below meth c D n0 s0 (aEnd D below args s h0 (.inr (some (va_rf q)), h)) h 0 [(0, false, va_rf a0)] [] := by
  have C := X.1
  unfold fJ16_requireNonNull at hf
  refine v_aload_n (pc := 0) (j := 0) C dJ16_requireNonNull_0 rfl rfl ?_
  refine v_ifnonnull (pc := 1) (tgt := 12) C dJ16_requireNonNull_1 rfl (fun hc => ?_) (fun hc => ?_)
  · rw [if_neg hc] at hf
    refine v_aload_n (pc := 12) (j := 0) C dJ16_requireNonNull_12 rfl rfl ?_
    cases hf
    exact v_areturn (pc := 13) C X.2.1 X.2.2.1 X.2.2.2.1 (Or.inl ⟨_, rfl⟩) rfl dJ16_requireNonNull_13
  · rw [if_pos hc] at hf
    cases hf
theorem mJ16_requireNonNull {l : Launch} {D : aD} {h : aH} {a0 : Option Nat} {q : Option Nat} (hst : l.stackTraces = false) (hf : fJ16_requireNonNull D h a0 = some q) : aM l D yJ16_requireNonNull cJ16_requireNonNull 1 (some (.object "java/lang/Object")) 0 0 [va_rf a0] h (.inr (some (va_rf q)), h) :=
  aM.ofX [(false, va_rf a0)] rfl (ap_r ap_0) (by decide +kernel) hst (al_of (aw_r aw_0) (by decide)) fun p e s m args below meth c X => V.sub (lv' := [(0, false, va_rf a0)]) [0] rfl (vJ16_requireNonNull X hf)
def fJ3_isEmpty (D : aD) (h : aH) (a0 : Option Nat) : Option (Int32) :=
  (aIs h 16 a0).bind fun _ =>
  (fJ4_size D h a0).bind fun x2 =>
  if x2 = 0 then
  (some (1 : Int32))
  else
  (some (0 : Int32))
theorem vJ3_isEmpty {h : aH} {a0 : Option Nat} {q : Int32} (X : aX p l R s m meth c D n0 s0 yJ3_isEmpty cJ3_isEmpty 1 20 1 (some .boolean) h0) (hf : fJ3_isEmpty D h a0 = some q) : V p l e R s m args below meth c D n0 s0 (aEnd D below args s h0 (.inr (some (.int q)), h)) h 0 [(0, false, va_rf a0)] [] := by
  have C := X.1
  unfold fJ3_isEmpty at hf
  refine v_aload_n (pc := 0) (j := 0) C dJ3_isEmpty_0 rfl rfl ?_
  obtain ⟨b1, eb1, hf⟩ := oB hf
  obtain ⟨rb1, _, kb1⟩ := aIs_eq eb1
  obtain ⟨x2, ex2, hf⟩ := oB hf
  refine v_call (pc := 1) (d_U (pc := 1) C (As := []) (rest := []) rb1 kb1 nt_16 q1499 q1501 (fun _ hT => va_Decl_of fun _ => gN q1503 rfl hT) ⟨by decide +kernel, by decide +kernel⟩ q1502 q824 (by decide +kernel) yk_J4_size rfl (by decide) (by decide) (Nat.le_trans aw_0 (by decide)) rfl (mJ4_size C.st ex2) dJ3_isEmpty_1) ?_
  refine v_if_ne (pc := 4) (tgt := 11) C dJ3_isEmpty_4 rfl (fun hc => ?_) (fun hc => ?_)
  · rw [if_neg hc] at hf
    refine v_iconst (pc := 11) (v := (0 : Int32)) C dJ3_isEmpty_11 rfl ?_
    cases hf
    exact v_zreturn (pc := 12) C X.2.1 X.2.2.1 X.2.2.2.1 (by decide) rfl dJ3_isEmpty_12
  · rw [if_pos (Decidable.of_not_not hc)] at hf
    refine v_iconst (pc := 7) (v := (1 : Int32)) C dJ3_isEmpty_7 rfl ?_
    refine v_goto (pc := 8) (tgt := 12) C dJ3_isEmpty_8 rfl ?_
    cases hf
    exact v_zreturn (pc := 12) C X.2.1 X.2.2.1 X.2.2.2.1 (by decide) rfl dJ3_isEmpty_12
theorem mJ3_isEmpty {l : Launch} {D : aD} {h : aH} {a0 : Option Nat} {q : Int32} (hst : l.stackTraces = false) (hf : fJ3_isEmpty D h a0 = some q) : aM l D yJ3_isEmpty cJ3_isEmpty 1 (some .boolean) 1 20 [va_rf a0] h (.inr (some (.int q)), h) :=
  aM.ofX [(false, va_rf a0)] rfl (ap_r ap_0) (by decide +kernel) hst (al_of (aw_r aw_0) (by decide)) fun p e s m args below meth c X => V.sub (lv' := [(0, false, va_rf a0)]) [0] rfl (vJ3_isEmpty X hf)
def fJ35_isEmpty (D : aD) (h : aH) (a0 : Option Nat) : Option (Int32) :=
  (gR h 18 0 a0).bind fun x1 =>
  (aIs h 16 x1).bind fun _ =>
  (fJ3_isEmpty D h x1).bind fun x3 =>
  (ckZ x3).bind fun _ =>
  some x3
theorem vJ35_isEmpty {h : aH} {a0 : Option Nat} {q : Int32} (X : aX p l R s m meth c D n0 s0 yJ35_isEmpty cJ35_isEmpty 2 40 1 (some .boolean) h0) (hf : fJ35_isEmpty D h a0 = some q) : V p l e R s m args below meth c D n0 s0 (aEnd D below args s h0 (.inr (some (.int q)), h)) h 0 [(0, false, va_rf a0)] [] := by
  have C := X.1
  unfold fJ35_isEmpty at hf
  refine v_aload_n (pc := 0) (j := 0) C dJ35_isEmpty_0 rfl rfl ?_
  obtain ⟨x1, ex1, hf⟩ := oB hf
  refine v_getF (pc := 1) C lk_J35_7 (gR_eq ex1) dJ35_isEmpty_1 ?_
  obtain ⟨b2, eb2, hf⟩ := oB hf
  obtain ⟨rb2, _, kb2⟩ := aIs_eq eb2
  obtain ⟨x3, ex3, hf⟩ := oB hf
  refine v_call (pc := 4) (d_FU (pc := 4) C (As := []) (rest := []) rb2 kb2 nt_16 (List.mem_of_getElem? (i := 5) rfl) (List.mem_of_getElem? (i := 1) rfl) (by decide +kernel) ⟨by decide +kernel, by decide +kernel⟩ q1493 q1492 ⟨by decide +kernel, by decide +kernel⟩ q1494 q1496 q1497 q1495 q833 (by decide +kernel) yk_J3_isEmpty rfl (by decide) (by decide) (Nat.le_trans aw_0 (by decide)) rfl (mJ3_isEmpty C.st ex3) dJ35_isEmpty_4) ?_
  obtain ⟨_, e5, hf⟩ := oB hf
  cases hf
  exact v_zreturn (pc := 9) C X.2.1 X.2.2.1 X.2.2.2.1 (ckZ_eq e5) rfl dJ35_isEmpty_9
theorem mJ35_isEmpty {l : Launch} {D : aD} {h : aH} {a0 : Option Nat} {q : Int32} (hst : l.stackTraces = false) (hf : fJ35_isEmpty D h a0 = some q) : aM l D yJ35_isEmpty cJ35_isEmpty 1 (some .boolean) 2 40 [va_rf a0] h (.inr (some (.int q)), h) :=
  aM.ofX [(false, va_rf a0)] rfl (ap_r ap_0) (by decide +kernel) hst (al_of (aw_r aw_0) (by decide)) fun p e s m args below meth c X => V.sub (lv' := [(0, false, va_rf a0)]) [0] rfl (vJ35_isEmpty X hf)
def fJ4_key (D : aD) (h : aH) (a0 : Option Nat) : Option (Option Nat) :=
  if a0 = none then
  (none)
  else
  ((gR h 17 0 a0).bind fun x1 =>
  some x1)
theorem vJ4_key {h : aH} {a0 : Option Nat} {q : Option Nat} (X : aX p l R s m meth c D n0 s0 yJ4_key cJ4_key 0 0 1 (some (.object "java/lang/Object")) h0) (hf : fJ4_key D h a0 = some q) : V p l e R s m args below meth c D n0 s0 (aEnd D below args s h0 (.inr (some (va_rf q)), h)) h 0 [(0, false, va_rf a0)] [] := by
  have C := X.1
  unfold fJ4_key at hf
  refine v_aload_n (pc := 0) (j := 0) C dJ4_key_0 rfl rfl ?_
  refine v_ifnonnull (pc := 1) (tgt := 12) C dJ4_key_1 rfl (fun hc => ?_) (fun hc => ?_)
  · rw [if_neg hc] at hf
    refine v_aload_n (pc := 12) (j := 0) C dJ4_key_12 rfl rfl ?_
    obtain ⟨x1, ex1, hf⟩ := oB hf
    refine v_getF (pc := 13) C lk_J4_105 (gR_eq ex1) dJ4_key_13 ?_
    cases hf
    exact v_areturn (pc := 16) C X.2.1 X.2.2.1 X.2.2.2.1 (Or.inl ⟨_, rfl⟩) rfl dJ4_key_16
  · rw [if_pos hc] at hf
    cases hf
theorem mJ4_key {l : Launch} {D : aD} {h : aH} {a0 : Option Nat} {q : Option Nat} (hst : l.stackTraces = false) (hf : fJ4_key D h a0 = some q) : aM l D yJ4_key cJ4_key 1 (some (.object "java/lang/Object")) 0 0 [va_rf a0] h (.inr (some (va_rf q)), h) :=
  aM.ofX [(false, va_rf a0)] rfl (ap_r ap_0) (by decide +kernel) hst (al_of (aw_r aw_0) (by decide)) fun p e s m args below meth c X => V.sub (lv' := [(0, false, va_rf a0)]) [0] rfl (vJ4_key X hf)
def fJ4_firstKey (D : aD) (h : aH) (a0 : Option Nat) : Option (Option Nat) :=
  (aIs h 16 a0).bind fun _ =>
  (fJ4_getFirstEntry D h a0).bind fun x2 =>
  (fJ4_key D h x2).bind fun x5 =>
  some x5
theorem vJ4_firstKey {h : aH} {a0 : Option Nat} {q : Option Nat} (X : aX p l R s m meth c D n0 s0 yJ4_firstKey cJ4_firstKey 1 21 1 (some (.object "java/lang/Object")) h0) (hf : fJ4_firstKey D h a0 = some q) : V p l e R s m args below meth c D n0 s0 (aEnd D below args s h0 (.inr (some (va_rf q)), h)) h 0 [(0, false, va_rf a0)] [] := by
  have C := X.1
  unfold fJ4_firstKey at hf
  refine v_aload_n (pc := 0) (j := 0) C dJ4_firstKey_0 rfl rfl ?_
  obtain ⟨b1, eb1, hf⟩ := oB hf
  obtain ⟨rb1, _, kb1⟩ := aIs_eq eb1
  obtain ⟨x2, ex2, hf⟩ := oB hf
  refine v_call (pc := 1) (d_V (pc := 1) C (As := []) (rest := []) rb1 kb1 nt_16 q1013 yi_J4_getFirstEntry_java_util_TreeMap yk_J4_getFirstEntry rfl (by decide) (by decide) (Nat.le_trans aw_0 (by decide)) rfl (mJ4_getFirstEntry C.st ex2) dJ4_firstKey_1) ?_
  obtain ⟨x5, ex5, hf⟩ := oB hf
  refine v_call (pc := 4) (d_S (pc := 4) C (As := [va_rf x2]) (rest := []) q1516 q1517 yk_J4_key rfl (by decide) (by decide) (Nat.le_trans aw_0 (by decide)) rfl (mJ4_key C.st ex5) dJ4_firstKey_4) ?_
  cases hf
  exact v_areturn (pc := 7) C X.2.1 X.2.2.1 X.2.2.2.1 (Or.inl ⟨_, rfl⟩) rfl dJ4_firstKey_7
theorem mJ4_firstKey {l : Launch} {D : aD} {h : aH} {a0 : Option Nat} {q : Option Nat} (hst : l.stackTraces = false) (hf : fJ4_firstKey D h a0 = some q) : aM l D yJ4_firstKey cJ4_firstKey 1 (some (.object "java/lang/Object")) 1 21 [va_rf a0] h (.inr (some (va_rf q)), h) :=
  aM.ofX [(false, va_rf a0)] rfl (ap_r ap_0) (by decide +kernel) hst (al_of (aw_r aw_0) (by decide)) fun p e s m args below meth c X => V.sub (lv' := [(0, false, va_rf a0)]) [0] rfl (vJ4_firstKey X hf)
def fJ35_first (D : aD) (h : aH) (a0 : Option Nat) : Option (Option Nat) :=
  (gR h 18 0 a0).bind fun x1 =>
  (aIs h 16 x1).bind fun _ =>
  (fJ4_firstKey D h x1).bind fun x3 =>
  some x3
theorem vJ35_first {h : aH} {a0 : Option Nat} {q : Option Nat} (X : aX p l R s m meth c D n0 s0 yJ35_first cJ35_first 2 41 1 (some (.object "java/lang/Object")) h0) (hf : fJ35_first D h a0 = some q) : V p l e R s m args below meth c D n0 s0 (aEnd D below args s h0 (.inr (some (va_rf q)), h)) h 0 [(0, false, va_rf a0)] [] := by
  have C := X.1
  unfold fJ35_first at hf
  refine v_aload_n (pc := 0) (j := 0) C dJ35_first_0 rfl rfl ?_
  obtain ⟨x1, ex1, hf⟩ := oB hf
  refine v_getF (pc := 1) C lk_J35_7 (gR_eq ex1) dJ35_first_1 ?_
  obtain ⟨b2, eb2, hf⟩ := oB hf
  obtain ⟨rb2, _, kb2⟩ := aIs_eq eb2
  obtain ⟨x3, ex3, hf⟩ := oB hf
  refine v_call (pc := 4) (d_FU (pc := 4) C (As := []) (rest := []) rb2 kb2 nt_16 (List.mem_of_getElem? (i := 6) rfl) (List.mem_of_getElem? (i := 2) rfl) (by decide +kernel) ⟨by decide +kernel, by decide +kernel⟩ q1510 q1509 ⟨by decide +kernel, by decide +kernel⟩ q1511 q1513 q1514 q1512 q833 (by decide +kernel) yk_J4_firstKey rfl (by decide) (by decide) (Nat.le_trans aw_0 (by decide)) rfl (mJ4_firstKey C.st ex3) dJ35_first_4) ?_
  cases hf
  exact v_areturn (pc := 9) C X.2.1 X.2.2.1 X.2.2.2.1 (Or.inl ⟨_, rfl⟩) rfl dJ35_first_9
theorem mJ35_first {l : Launch} {D : aD} {h : aH} {a0 : Option Nat} {q : Option Nat} (hst : l.stackTraces = false) (hf : fJ35_first D h a0 = some q) : aM l D yJ35_first cJ35_first 1 (some (.object "java/lang/Object")) 2 41 [va_rf a0] h (.inr (some (va_rf q)), h) :=
  aM.ofX [(false, va_rf a0)] rfl (ap_r ap_0) (by decide +kernel) hst (al_of (aw_r aw_0) (by decide)) fun p e s m args below meth c X => V.sub (lv' := [(0, false, va_rf a0)]) [0] rfl (vJ35_first X hf)
def fJ4_getLastEntry_p9 (D : aD) (h : aH) : Nat → (Option Nat) → Option (Option Nat)
  | 0, _ => none
  | n + 1, a1 =>
  (gR h 17 3 a1).bind fun x1 =>
  if x1 = none then
  (some a1)
  else
  ((gR h 17 3 a1).bind fun x2 =>
  fJ4_getLastEntry_p9 D h n x2)
theorem vJ4_getLastEntry_p9 {h : aH} (X : aX p l R s m meth c D n0 s0 yJ4_getLastEntry cJ4_getLastEntry 0 0 2 (some (.object "java/util/TreeMap$Entry")) h0) : ∀ (n : Nat) (a1 : Option Nat) (q : Option Nat), fJ4_getLastEntry_p9 D h n a1 = some q → V p l e R s m args below meth c D n0 s0 (aEnd D below args s h0 (.inr (some (va_rf q)), h)) h 9 [(1, false, va_rf a1)] [] := by
  have C := X.1
  intro n
  induction n with
  | zero =>
    intro _ _ hf
    rw [fJ4_getLastEntry_p9] at hf
    cases hf
  | succ n ih =>
    intro a1 q hf
    rw [fJ4_getLastEntry_p9] at hf
    refine v_aload_n (pc := 9) (j := 0) C dJ4_getLastEntry_9 rfl rfl ?_
    obtain ⟨x1, ex1, hf⟩ := oB hf
    refine v_getF (pc := 10) C lk_J4_114 (gR_eq ex1) dJ4_getLastEntry_10 ?_
    refine v_ifnull (pc := 13) (tgt := 24) C dJ4_getLastEntry_13 rfl (fun hc => ?_) (fun hc => ?_)
    · rw [if_pos hc] at hf
      refine v_aload_n (pc := 24) (j := 0) C dJ4_getLastEntry_24 rfl rfl ?_
      cases hf
      exact v_areturn (pc := 25) C X.2.1 X.2.2.1 X.2.2.2.1 (Or.inl ⟨_, rfl⟩) rfl dJ4_getLastEntry_25
    · rw [if_neg hc] at hf
      refine v_aload_n (pc := 16) (j := 0) C dJ4_getLastEntry_16 rfl rfl ?_
      obtain ⟨x2, ex2, hf⟩ := oB hf
      refine v_getF (pc := 17) C lk_J4_114 (gR_eq ex2) dJ4_getLastEntry_17 ?_
      refine v_astore_n (pc := 20) (lv' := [(1, false, va_rf x2)]) C dJ4_getLastEntry_20 rfl (by decide) rfl ?_
      refine v_goto (pc := 21) (tgt := 9) C dJ4_getLastEntry_21 rfl ?_
      exact V.sub [0] rfl (ih _ _ hf)
def fJ4_getLastEntry (D : aD) (h : aH) (a0 : Option Nat) : Option (Option Nat) :=
  (gR h 16 3 a0).bind fun x1 =>
  if x1 = none then
  (some x1)
  else
  (fJ4_getLastEntry_p9 D h FU x1)
theorem vJ4_getLastEntry {h : aH} {a0 : Option Nat} {q : Option Nat} (X : aX p l R s m meth c D n0 s0 yJ4_getLastEntry cJ4_getLastEntry 0 0 2 (some (.object "java/util/TreeMap$Entry")) h0) (hf : fJ4_getLastEntry D h a0 = some q) : V p l e R s m args below meth c D n0 s0 (aEnd D below args s h0 (.inr (some (va_rf q)), h)) h 0 [(0, false, va_rf a0)] [] := by
  have C := X.1
  unfold fJ4_getLastEntry at hf
  refine v_aload_n (pc := 0) (j := 0) C dJ4_getLastEntry_0 rfl rfl ?_
  obtain ⟨x1, ex1, hf⟩ := oB hf
  refine v_getF (pc := 1) C lk_J4_101 (gR_eq ex1) dJ4_getLastEntry_1 ?_
  refine v_astore_n (pc := 4) (lv' := [(1, false, va_rf x1), (0, false, va_rf a0)]) C dJ4_getLastEntry_4 rfl (by decide) rfl ?_
  refine v_aload_n (pc := 5) (j := 0) C dJ4_getLastEntry_5 rfl rfl ?_
  refine v_ifnull (pc := 6) (tgt := 24) C dJ4_getLastEntry_6 rfl (fun hc => ?_) (fun hc => ?_)
  · rw [if_pos hc] at hf
    refine v_aload_n (pc := 24) (j := 0) C dJ4_getLastEntry_24 rfl rfl ?_
    cases hf
    exact v_areturn (pc := 25) C X.2.1 X.2.2.1 X.2.2.2.1 (Or.inl ⟨_, rfl⟩) rfl dJ4_getLastEntry_25
  · rw [if_neg hc] at hf
    exact V.sub [0] rfl (vJ4_getLastEntry_p9 X _ _ _ hf)
theorem mJ4_getLastEntry {l : Launch} {D : aD} {h : aH} {a0 : Option Nat} {q : Option Nat} (hst : l.stackTraces = false) (hf : fJ4_getLastEntry D h a0 = some q) : aM l D yJ4_getLastEntry cJ4_getLastEntry 2 (some (.object "java/util/TreeMap$Entry")) 0 0 [va_rf a0] h (.inr (some (va_rf q)), h) :=
  aM.ofX [(false, va_rf a0)] rfl (ap_r ap_0) (by decide +kernel) hst (al_of (aw_r aw_0) (by decide)) fun p e s m args below meth c X => V.sub (lv' := [(0, false, va_rf a0)]) [0] rfl (vJ4_getLastEntry X hf)
def fJ4_lastKey (D : aD) (h : aH) (a0 : Option Nat) : Option (Option Nat) :=
  (aIs h 16 a0).bind fun _ =>
  (fJ4_getLastEntry D h a0).bind fun x2 =>
  (fJ4_key D h x2).bind fun x5 =>
  some x5
theorem vJ4_lastKey {h : aH} {a0 : Option Nat} {q : Option Nat} (X : aX p l R s m meth c D n0 s0 yJ4_lastKey cJ4_lastKey 1 21 1 (some (.object "java/lang/Object")) h0) (hf : fJ4_lastKey D h a0 = some q) : V p l e R s m args below meth c D n0 s0 (aEnd D below args s h0 (.inr (some (va_rf q)), h)) h 0 [(0, false, va_rf a0)] [] := by
  have C := X.1
  unfold fJ4_lastKey at hf
  refine v_aload_n (pc := 0) (j := 0) C dJ4_lastKey_0 rfl rfl ?_
  obtain ⟨b1, eb1, hf⟩ := oB hf
  obtain ⟨rb1, _, kb1⟩ := aIs_eq eb1
  obtain ⟨x2, ex2, hf⟩ := oB hf
  refine v_call (pc := 1) (d_V (pc := 1) C (As := []) (rest := []) rb1 kb1 nt_16 q1531 yi_J4_getLastEntry_java_util_TreeMap yk_J4_getLastEntry rfl (by decide) (by decide) (Nat.le_trans aw_0 (by decide)) rfl (mJ4_getLastEntry C.st ex2) dJ4_lastKey_1) ?_
  obtain ⟨x5, ex5, hf⟩ := oB hf
  refine v_call (pc := 4) (d_S (pc := 4) C (As := [va_rf x2]) (rest := []) q1516 q1517 yk_J4_key rfl (by decide) (by decide) (Nat.le_trans aw_0 (by decide)) rfl (mJ4_key C.st ex5) dJ4_lastKey_4) ?_
  cases hf
  exact v_areturn (pc := 7) C X.2.1 X.2.2.1 X.2.2.2.1 (Or.inl ⟨_, rfl⟩) rfl dJ4_lastKey_7
theorem mJ4_lastKey {l : Launch} {D : aD} {h : aH} {a0 : Option Nat} {q : Option Nat} (hst : l.stackTraces = false) (hf : fJ4_lastKey D h a0 = some q) : aM l D yJ4_lastKey cJ4_lastKey 1 (some (.object "java/lang/Object")) 1 21 [va_rf a0] h (.inr (some (va_rf q)), h) :=
  aM.ofX [(false, va_rf a0)] rfl (ap_r ap_0) (by decide +kernel) hst (al_of (aw_r aw_0) (by decide)) fun p e s m args below meth c X => V.sub (lv' := [(0, false, va_rf a0)]) [0] rfl (vJ4_lastKey X hf)
def fJ35_last (D : aD) (h : aH) (a0 : Option Nat) : Option (Option Nat) :=
  (gR h 18 0 a0).bind fun x1 =>
  (aIs h 16 x1).bind fun _ =>
  (fJ4_lastKey D h x1).bind fun x3 =>
  some x3
theorem vJ35_last {h : aH} {a0 : Option Nat} {q : Option Nat} (X : aX p l R s m meth c D n0 s0 yJ35_last cJ35_last 2 41 1 (some (.object "java/lang/Object")) h0) (hf : fJ35_last D h a0 = some q) : V p l e R s m args below meth c D n0 s0 (aEnd D below args s h0 (.inr (some (va_rf q)), h)) h 0 [(0, false, va_rf a0)] [] := by
  have C := X.1
  unfold fJ35_last at hf
  refine v_aload_n (pc := 0) (j := 0) C dJ35_last_0 rfl rfl ?_
  obtain ⟨x1, ex1, hf⟩ := oB hf
  refine v_getF (pc := 1) C lk_J35_7 (gR_eq ex1) dJ35_last_1 ?_
  obtain ⟨b2, eb2, hf⟩ := oB hf
  obtain ⟨rb2, _, kb2⟩ := aIs_eq eb2
  obtain ⟨x3, ex3, hf⟩ := oB hf
  refine v_call (pc := 4) (d_FU (pc := 4) C (As := []) (rest := []) rb2 kb2 nt_16 (List.mem_of_getElem? (i := 7) rfl) (List.mem_of_getElem? (i := 3) rfl) (by decide +kernel) ⟨by decide +kernel, by decide +kernel⟩ q1525 q1524 ⟨by decide +kernel, by decide +kernel⟩ q1526 q1528 q1529 q1527 q833 (by decide +kernel) yk_J4_lastKey rfl (by decide) (by decide) (Nat.le_trans aw_0 (by decide)) rfl (mJ4_lastKey C.st ex3) dJ35_last_4) ?_
  cases hf
  exact v_areturn (pc := 9) C X.2.1 X.2.2.1 X.2.2.2.1 (Or.inl ⟨_, rfl⟩) rfl dJ35_last_9
theorem mJ35_last {l : Launch} {D : aD} {h : aH} {a0 : Option Nat} {q : Option Nat} (hst : l.stackTraces = false) (hf : fJ35_last D h a0 = some q) : aM l D yJ35_last cJ35_last 1 (some (.object "java/lang/Object")) 2 41 [va_rf a0] h (.inr (some (va_rf q)), h) :=
  aM.ofX [(false, va_rf a0)] rfl (ap_r ap_0) (by decide +kernel) hst (al_of (aw_r aw_0) (by decide)) fun p e s m args below meth c X => V.sub (lv' := [(0, false, va_rf a0)]) [0] rfl (vJ35_last X hf)
def fJ4_keyOrNull (D : aD) (h : aH) (a0 : Option Nat) : Option (Option Nat) :=
  if a0 = none then
  (some none)
  else
  ((gR h 17 0 a0).bind fun x1 =>
  some x1)
theorem vJ4_keyOrNull {h : aH} {a0 : Option Nat} {q : Option Nat} (X : aX p l R s m meth c D n0 s0 yJ4_keyOrNull cJ4_keyOrNull 0 0 1 (some (.object "java/lang/Object")) h0) (hf : fJ4_keyOrNull D h a0 = some q) : V p l e R s m args below meth c D n0 s0 (aEnd D below args s h0 (.inr (some (va_rf q)), h)) h 0 [(0, false, va_rf a0)] [] := by
  have C := X.1
  unfold fJ4_keyOrNull at hf
  refine v_aload_n (pc := 0) (j := 0) C dJ4_keyOrNull_0 rfl rfl ?_
  refine v_ifnonnull (pc := 1) (tgt := 8) C dJ4_keyOrNull_1 rfl (fun hc => ?_) (fun hc => ?_)
  · rw [if_neg hc] at hf
    refine v_aload_n (pc := 8) (j := 0) C dJ4_keyOrNull_8 rfl rfl ?_
    obtain ⟨x1, ex1, hf⟩ := oB hf
    refine v_getF (pc := 9) C lk_J4_105 (gR_eq ex1) dJ4_keyOrNull_9 ?_
    cases hf
    exact v_areturn (pc := 12) C X.2.1 X.2.2.1 X.2.2.2.1 (Or.inl ⟨_, rfl⟩) rfl dJ4_keyOrNull_12
  · rw [if_pos hc] at hf
    refine v_null (pc := 4) C dJ4_keyOrNull_4 ?_
    refine v_goto (pc := 5) (tgt := 12) C dJ4_keyOrNull_5 rfl ?_
    cases hf
    exact v_areturn (pc := 12) C X.2.1 X.2.2.1 X.2.2.2.1 (Or.inl ⟨_, rfl⟩) rfl dJ4_keyOrNull_12
theorem mJ4_keyOrNull {l : Launch} {D : aD} {h : aH} {a0 : Option Nat} {q : Option Nat} (hst : l.stackTraces = false) (hf : fJ4_keyOrNull D h a0 = some q) : aM l D yJ4_keyOrNull cJ4_keyOrNull 1 (some (.object "java/lang/Object")) 0 0 [va_rf a0] h (.inr (some (va_rf q)), h) :=
  aM.ofX [(false, va_rf a0)] rfl (ap_r ap_0) (by decide +kernel) hst (al_of (aw_r aw_0) (by decide)) fun p e s m args below meth c X => V.sub (lv' := [(0, false, va_rf a0)]) [0] rfl (vJ4_keyOrNull X hf)
def fX1_in_p10 (D : aD) (h : aH) : Option ((Nat ⊕ Int32) × aH) :=
  (aThr D h).bind fun h1 =>
  some (.inl 2, h1)
theorem vX1_in_p10 {h : aH} {q : Nat ⊕ Int32} {g : aH} (X : aX p l R s m meth c D n0 s0 yX1_in cX1_in 6 82 3 (some .int) h0) (hf : fX1_in_p10 D h = some (q, g)) : V p l e R s m args below meth c D n0 s0 (aEnd D below args s h0 (wI q, g)) h 10 [] [] := by
  have C := X.1
  unfold fX1_in_p10 at hf
  obtain ⟨h1, eh1, hf⟩ := oB hf
  cases hf
  exact v_throw (pc := 10) C X.2.1 X.2.2.1 X.2.2.2.2.1 (is := 121) (text := "out of range") (cls := "java/lang/IllegalArgumentException") (by decide +kernel) (by decide +kernel) q1581 q84 aTh_2 rfl eh1 rfl (by decide) (Nat.le_trans (Nat.add_le_add_right aw_0 82) (by decide)) dX1_in_10 dX1_in_13 dX1_in_14 dX1_in_16 dX1_in_19
def fX1_in (D : aD) (h : aH) (a0 : Int32) (a1 : Int32) (a2 : Int32) : Option ((Nat ⊕ Int32) × aH) :=
  if a0 < a1 then
  (fX1_in_p10 D h)
  else
  (if a0 ≤ a2 then
  (some (.inr a0, h))
  else
  (fX1_in_p10 D h))
theorem vX1_in {h : aH} {a0 : Int32} {a1 : Int32} {a2 : Int32} {q : Nat ⊕ Int32} {g : aH} (X : aX p l R s m meth c D n0 s0 yX1_in cX1_in 6 82 3 (some .int) h0) (hf : fX1_in D h a0 a1 a2 = some (q, g)) : V p l e R s m args below meth c D n0 s0 (aEnd D below args s h0 (wI q, g)) h 0 [(0, false, .int a0), (1, false, .int a1), (2, false, .int a2)] [] := by
  have C := X.1
  unfold fX1_in at hf
  refine v_iload_n (pc := 0) (j := 0) C dX1_in_0 rfl rfl ?_
  refine v_iload_n (pc := 1) (j := 1) C dX1_in_1 rfl rfl ?_
  refine v_icmp_lt (pc := 2) (tgt := 10) C dX1_in_2 rfl (fun hc => ?_) (fun hc => ?_)
  · rw [if_pos hc] at hf
    exact V.sub [] rfl (vX1_in_p10 X hf)
  · rw [if_neg hc] at hf
    refine v_iload_n (pc := 5) (j := 0) C dX1_in_5 rfl rfl ?_
    refine v_iload_n (pc := 6) (j := 2) C dX1_in_6 rfl rfl ?_
    refine v_icmp_le (pc := 7) (tgt := 20) C dX1_in_7 rfl (fun hc => ?_) (fun hc => ?_)
    · rw [if_pos hc] at hf
      refine v_iload_n (pc := 20) (j := 0) C dX1_in_20 rfl rfl ?_
      cases hf
      exact v_ireturn (pc := 21) C X.2.1 X.2.2.1 X.2.2.2.1 rfl dX1_in_21
    · rw [if_neg hc] at hf
      exact V.sub [] rfl (vX1_in_p10 X hf)
theorem mX1_in {l : Launch} {D : aD} {h : aH} {a0 : Int32} {a1 : Int32} {a2 : Int32} {q : Nat ⊕ Int32} {g : aH} (hst : l.stackTraces = false) (hf : fX1_in D h a0 a1 a2 = some (q, g)) : aM l D yX1_in cX1_in 3 (some .int) 6 82 [.int a0, .int a1, .int a2] h (wI q, g) :=
  aM.ofX [(false, .int a0), (false, .int a1), (false, .int a2)] rfl (ap_c rfl (ap_c rfl (ap_c rfl ap_0))) (by decide +kernel) hst (al_of (aw_i (aw_i (aw_i aw_0))) (by decide)) fun p e s m args below meth c X => V.sub (lv' := [(0, false, .int a0), (1, false, .int a1), (2, false, .int a2)]) [0, 1, 2] rfl (vX1_in X hf)
def fX1_must (D : aD) (h : aH) (a0 : Int32) : Option ((Nat ⊕ Unit) × aH) :=
  if a0 = 0 then
  ((aThr D h).bind fun h1 =>
  some (.inl 3, h1))
  else
  (some (.inr (), h))
theorem vX1_must {h : aH} {a0 : Int32} {q : Nat ⊕ Unit} {g : aH} (X : aX p l R s m meth c D n0 s0 yX1_must cX1_must 6 82 1 (none) h0) (hf : fX1_must D h a0 = some (q, g)) : V p l e R s m args below meth c D n0 s0 (aEnd D below args s h0 (wU q, g)) h 0 [(0, false, .int a0)] [] := by
  have C := X.1
  unfold fX1_must at hf
  refine v_iload_n (pc := 0) (j := 0) C dX1_must_0 rfl rfl ?_
  refine v_if_ne (pc := 1) (tgt := 14) C dX1_must_1 rfl (fun hc => ?_) (fun hc => ?_)
  · rw [if_neg hc] at hf
    cases hf
    exact v_return (pc := 14) C X.2.1 X.2.2.1 X.2.2.2.1 rfl dX1_must_14
  · rw [if_pos (Decidable.of_not_not hc)] at hf
    obtain ⟨h1, eh1, hf⟩ := oB hf
    cases hf
    exact v_throw (pc := 4) C X.2.1 X.2.2.1 X.2.2.2.2.1 (is := 135) (text := "not in this state") (cls := "java/lang/IllegalStateException") (by decide +kernel) (by decide +kernel) q1598 q85 aTh_3 rfl eh1 rfl (by decide) (Nat.le_trans (Nat.add_le_add_right aw_0 82) (by decide)) dX1_must_4 dX1_must_7 dX1_must_8 dX1_must_10 dX1_must_13
theorem mX1_must {l : Launch} {D : aD} {h : aH} {a0 : Int32} {q : Nat ⊕ Unit} {g : aH} (hst : l.stackTraces = false) (hf : fX1_must D h a0 = some (q, g)) : aM l D yX1_must cX1_must 1 (none) 6 82 [.int a0] h (wU q, g) :=
  aM.ofX [(false, .int a0)] rfl (ap_c rfl ap_0) (by decide +kernel) hst (al_of (aw_i aw_0) (by decide)) fun p e s m args below meth c X => V.sub (lv' := [(0, false, .int a0)]) [0] rfl (vX1_must X hf)
def fX1_addPanel_p26 (D : aD) (h : aH) (a0 : Option Nat) (a1 : Int32) (t0 : Int32) : Option ((Nat ⊕ Int32) × aH) :=
  bndT (fX1_must D h t0) fun _ h3 =>
  (gR h3 0 1 a0).bind fun x4 =>
  (aMk D h3 (2, dfX3)).bind fun h5 =>
  (gR h5 0 1 a0).bind fun x6 =>
  (aIs h5 15 x6).bind fun _ =>
  (fJ2_size D h5 x6).bind fun x8 =>
  (fX3_init D h5 (some h3.1) x8 a1).bind fun h12 =>
  (aIs h12 15 x4).bind fun _ =>
  bnd2 (fJ2_add D h12 x4 (some h3.1)) fun x14 h15 =>
  (gR h15 0 1 a0).bind fun x16 =>
  (aIs h15 15 x16).bind fun _ =>
  (fJ2_size D h15 x16).bind fun x18 =>
  some (.inr (x18 - (1 : Int32)), h15)
theorem vX1_addPanel_p26 {h : aH} {a0 : Option Nat} {a1 : Int32} {t0 : Int32} {q : Nat ⊕ Int32} {g : aH} (X : aX p l R s m meth c D n0 s0 yX1_addPanel cX1_addPanel 7 152 2 (some .int) h0) (hf : fX1_addPanel_p26 D h a0 a1 t0 = some (q, g)) : V p l e R s m args below meth c D n0 s0 (aEnd D below args s h0 (wI q, g)) h 26 [(0, false, va_rf a0), (1, false, .int a1)] [.int t0] := by
  have C := X.1
  unfold fX1_addPanel_p26 at hf
  rcases bndT_eq hf with ⟨_, _, ex2, qx2⟩ | ⟨x2, h3, ex2, hf⟩
  · cases qx2; exact v_ofDx (pc := 26) C X.2.1 X.2.2.1 rfl X.2.2.2.2.1 (d_S (pc := 26) C (As := [.int t0]) (rest := []) q1595 q1596 yk_X1_must rfl (by decide) (by decide) (Nat.le_trans aw_0 (by decide)) rfl (mX1_must C.st ex2) dX1_addPanel_26)
  refine v_callU (pc := 26) (d_S (pc := 26) C (As := [.int t0]) (rest := []) q1595 q1596 yk_X1_must rfl (by decide) (by decide) (Nat.le_trans aw_0 (by decide)) rfl (mX1_must C.st ex2) dX1_addPanel_26) ?_
  refine v_aload_n (pc := 29) (j := 0) C dX1_addPanel_29 rfl rfl ?_
  obtain ⟨x4, ex4, hf⟩ := oB hf
  refine v_getF (pc := 30) C lk_X1_49 (gR_eq ex4) dX1_addPanel_30 ?_
  obtain ⟨h5, eh5, hf⟩ := oB hf
  refine v_new (pc := 33) (t := 2) (fs := dfX3) (T := TX3) (N := 13) C rfl in_X3 tyX3 tyX3_ok q393 q1615 q86 dfX3_ok rfl eh5 dX1_addPanel_33 ?_
  refine v_dup (pc := 36) C dX1_addPanel_36 (va_rfc _) ?_
  refine v_aload_n (pc := 37) (j := 0) C dX1_addPanel_37 rfl rfl ?_
  obtain ⟨x6, ex6, hf⟩ := oB hf
  refine v_getF (pc := 38) C lk_X1_49 (gR_eq ex6) dX1_addPanel_38 ?_
  obtain ⟨b7, eb7, hf⟩ := oB hf
  obtain ⟨rb7, _, kb7⟩ := aIs_eq eb7
  obtain ⟨x8, ex8, hf⟩ := oB hf
  refine v_call (pc := 41) (d_V (pc := 41) C (As := []) (rest := [va_rf (some h3.1), va_rf (some h3.1), va_rf x4]) rb7 kb7 nt_15 q375 yi_J2_size_java_util_ArrayList yk_J2_size rfl (by decide) (by decide) (Nat.le_trans (aw_r (aw_r (aw_r aw_0))) (by decide)) rfl (mJ2_size C.st ex8) dX1_addPanel_41) ?_
  refine v_iload_n (pc := 44) (j := 1) C dX1_addPanel_44 rfl rfl ?_
  obtain ⟨h12, ex11, hf⟩ := oB hf
  refine v_callU (pc := 45) (d_I (pc := 45) C (As := [.int x8, .int a1]) (rest := [va_rf (some h3.1), va_rf x4]) rfl rfl rfl q1616 q1617 yk_X3_init rfl (by decide) (by decide) (Nat.le_trans (aw_r (aw_r aw_0)) (by decide)) rfl (mX3_init C.st ex11) dX1_addPanel_45) ?_
  obtain ⟨b13, eb13, hf⟩ := oB hf
  obtain ⟨rb13, _, kb13⟩ := aIs_eq eb13
  obtain ⟨x14, h15, ex14, hf⟩ := bnd2_eq hf
  refine v_call (pc := 48) (d_V (pc := 48) C (As := [va_rf (some h3.1)]) (rest := []) rb13 kb13 nt_15 q1673 yi_J2_add_java_util_ArrayList yk_J2_add rfl (by decide) (by decide) (Nat.le_trans aw_0 (by decide)) rfl (mJ2_add C.st ex14) dX1_addPanel_48) ?_
  refine v_pop (pc := 51) C dX1_addPanel_51 rfl ?_
  refine v_aload_n (pc := 52) (j := 0) C dX1_addPanel_52 rfl rfl ?_
  obtain ⟨x16, ex16, hf⟩ := oB hf
  refine v_getF (pc := 53) C lk_X1_49 (gR_eq ex16) dX1_addPanel_53 ?_
  obtain ⟨b17, eb17, hf⟩ := oB hf
  obtain ⟨rb17, _, kb17⟩ := aIs_eq eb17
  obtain ⟨x18, ex18, hf⟩ := oB hf
  refine v_call (pc := 56) (d_V (pc := 56) C (As := []) (rest := []) rb17 kb17 nt_15 q375 yi_J2_size_java_util_ArrayList yk_J2_size rfl (by decide) (by decide) (Nat.le_trans aw_0 (by decide)) rfl (mJ2_size C.st ex18) dX1_addPanel_56) ?_
  refine v_iconst (pc := 59) (v := (1 : Int32)) C dX1_addPanel_59 rfl ?_
  refine v_isub (pc := 60) C dX1_addPanel_60 ?_
  cases hf
  exact v_ireturn (pc := 61) C X.2.1 X.2.2.1 X.2.2.2.1 rfl dX1_addPanel_61
def fX1_addPanel (D : aD) (h : aH) (a0 : Option Nat) (a1 : Int32) : Option ((Nat ⊕ Int32) × aH) :=
  bndT (fX1_in D h a1 (0 : Int32) (1000 : Int32)) fun x2 h3 =>
  (gR h3 0 1 a0).bind fun x4 =>
  (aIs h3 15 x4).bind fun _ =>
  (fJ2_size D h3 x4).bind fun x6 =>
  fX1_addPanel_p26 D h3 a0 a1 (if (6 : Int32) ≤ x6 then (0 : Int32) else (1 : Int32))
theorem vX1_addPanel {h : aH} {a0 : Option Nat} {a1 : Int32} {q : Nat ⊕ Int32} {g : aH} (X : aX p l R s m meth c D n0 s0 yX1_addPanel cX1_addPanel 7 152 2 (some .int) h0) (hf : fX1_addPanel D h a0 a1 = some (q, g)) : V p l e R s m args below meth c D n0 s0 (aEnd D below args s h0 (wI q, g)) h 0 [(0, false, va_rf a0), (1, false, .int a1)] [] := by
  have C := X.1
  unfold fX1_addPanel at hf
  refine v_iload_n (pc := 0) (j := 1) C dX1_addPanel_0 rfl rfl ?_
  refine v_iconst (pc := 1) (v := (0 : Int32)) C dX1_addPanel_1 rfl ?_
  refine v_sipush (pc := 2) (v := (1000 : Int32)) C dX1_addPanel_2 rfl ?_
  rcases bndT_eq hf with ⟨_, _, ex2, qx2⟩ | ⟨x2, h3, ex2, hf⟩
  · cases qx2; exact v_ofDx (pc := 5) C X.2.1 X.2.2.1 rfl X.2.2.2.2.1 (d_S (pc := 5) C (As := [.int a1, .int (0 : Int32), .int (1000 : Int32)]) (rest := []) q1578 q1579 yk_X1_in rfl (by decide) (by decide) (Nat.le_trans aw_0 (by decide)) rfl (mX1_in C.st ex2) dX1_addPanel_5)
  refine v_call (pc := 5) (d_S (pc := 5) C (As := [.int a1, .int (0 : Int32), .int (1000 : Int32)]) (rest := []) q1578 q1579 yk_X1_in rfl (by decide) (by decide) (Nat.le_trans aw_0 (by decide)) rfl (mX1_in C.st ex2) dX1_addPanel_5) ?_
  refine v_pop (pc := 8) C dX1_addPanel_8 rfl ?_
  refine v_aload_n (pc := 9) (j := 0) C dX1_addPanel_9 rfl rfl ?_
  obtain ⟨x4, ex4, hf⟩ := oB hf
  refine v_getF (pc := 10) C lk_X1_49 (gR_eq ex4) dX1_addPanel_10 ?_
  obtain ⟨b5, eb5, hf⟩ := oB hf
  obtain ⟨rb5, _, kb5⟩ := aIs_eq eb5
  obtain ⟨x6, ex6, hf⟩ := oB hf
  refine v_call (pc := 13) (d_V (pc := 13) C (As := []) (rest := []) rb5 kb5 nt_15 q375 yi_J2_size_java_util_ArrayList yk_J2_size rfl (by decide) (by decide) (Nat.le_trans aw_0 (by decide)) rfl (mJ2_size C.st ex6) dX1_addPanel_13) ?_
  refine v_bipush (pc := 16) (v := (6 : Int32)) C dX1_addPanel_16 rfl ?_
  refine v_icmp_ge (pc := 18) (tgt := 25) C dX1_addPanel_18 rfl (fun hc => ?_) (fun hc => ?_)
  · simp only [if_pos hc] at hf
    refine v_iconst (pc := 25) (v := (0 : Int32)) C dX1_addPanel_25 rfl ?_
    exact V.sub [0, 1] rfl (vX1_addPanel_p26 X hf)
  · simp only [if_neg hc] at hf
    refine v_iconst (pc := 21) (v := (1 : Int32)) C dX1_addPanel_21 rfl ?_
    refine v_goto (pc := 22) (tgt := 26) C dX1_addPanel_22 rfl ?_
    exact V.sub [0, 1] rfl (vX1_addPanel_p26 X hf)
theorem mX1_addPanel {l : Launch} {D : aD} {h : aH} {a0 : Option Nat} {a1 : Int32} {q : Nat ⊕ Int32} {g : aH} (hst : l.stackTraces = false) (hf : fX1_addPanel D h a0 a1 = some (q, g)) : aM l D yX1_addPanel cX1_addPanel 2 (some .int) 7 152 [va_rf a0, .int a1] h (wI q, g) :=
  aM.ofX [(false, va_rf a0), (false, .int a1)] rfl (ap_r (ap_c rfl ap_0)) (by decide +kernel) hst (al_of (aw_r (aw_i aw_0)) (by decide)) fun p e s m args below meth c X => V.sub (lv' := [(0, false, va_rf a0), (1, false, .int a1)]) [0, 1] rfl (vX1_addPanel X hf)
def fX1_there_p9 (D : aD) (h : aH) : Option ((Nat ⊕ Int32) × aH) :=
  (aThr D h).bind fun h1 =>
  some (.inl 1, h1)
theorem vX1_there_p9 {h : aH} {q : Nat ⊕ Int32} {g : aH} (X : aX p l R s m meth c D n0 s0 yX1_there cX1_there 6 82 2 (some .int) h0) (hf : fX1_there_p9 D h = some (q, g)) : V p l e R s m args below meth c D n0 s0 (aEnd D below args s h0 (wI q, g)) h 9 [] [] := by
  have C := X.1
  unfold fX1_there_p9 at hf
  obtain ⟨h1, eh1, hf⟩ := oB hf
  cases hf
  exact v_throw (pc := 9) C X.2.1 X.2.2.1 X.2.2.2.2.1 (is := 130) (text := "no such number") (cls := "java/lang/IndexOutOfBoundsException") (by decide +kernel) (by decide +kernel) q1712 q91 aTh_1 rfl eh1 rfl (by decide) (Nat.le_trans (Nat.add_le_add_right aw_0 82) (by decide)) dX1_there_9 dX1_there_12 dX1_there_13 dX1_there_15 dX1_there_18
def fX1_there (D : aD) (h : aH) (a0 : Int32) (a1 : Int32) : Option ((Nat ⊕ Int32) × aH) :=
  if a0 < 0 then
  (fX1_there_p9 D h)
  else
  (if a0 < a1 then
  (some (.inr a0, h))
  else
  (fX1_there_p9 D h))
theorem vX1_there {h : aH} {a0 : Int32} {a1 : Int32} {q : Nat ⊕ Int32} {g : aH} (X : aX p l R s m meth c D n0 s0 yX1_there cX1_there 6 82 2 (some .int) h0) (hf : fX1_there D h a0 a1 = some (q, g)) : V p l e R s m args below meth c D n0 s0 (aEnd D below args s h0 (wI q, g)) h 0 [(0, false, .int a0), (1, false, .int a1)] [] := by
  have C := X.1
  unfold fX1_there at hf
  refine v_iload_n (pc := 0) (j := 0) C dX1_there_0 rfl rfl ?_
  refine v_if_lt (pc := 1) (tgt := 9) C dX1_there_1 rfl (fun hc => ?_) (fun hc => ?_)
  · rw [if_pos hc] at hf
    exact V.sub [] rfl (vX1_there_p9 X hf)
  · rw [if_neg hc] at hf
    refine v_iload_n (pc := 4) (j := 0) C dX1_there_4 rfl rfl ?_
    refine v_iload_n (pc := 5) (j := 1) C dX1_there_5 rfl rfl ?_
    refine v_icmp_lt (pc := 6) (tgt := 19) C dX1_there_6 rfl (fun hc => ?_) (fun hc => ?_)
    · rw [if_pos hc] at hf
      refine v_iload_n (pc := 19) (j := 0) C dX1_there_19 rfl rfl ?_
      cases hf
      exact v_ireturn (pc := 20) C X.2.1 X.2.2.1 X.2.2.2.1 rfl dX1_there_20
    · rw [if_neg hc] at hf
      exact V.sub [] rfl (vX1_there_p9 X hf)
theorem mX1_there {l : Launch} {D : aD} {h : aH} {a0 : Int32} {a1 : Int32} {q : Nat ⊕ Int32} {g : aH} (hst : l.stackTraces = false) (hf : fX1_there D h a0 a1 = some (q, g)) : aM l D yX1_there cX1_there 2 (some .int) 6 82 [.int a0, .int a1] h (wI q, g) :=
  aM.ofX [(false, .int a0), (false, .int a1)] rfl (ap_c rfl (ap_c rfl ap_0)) (by decide +kernel) hst (al_of (aw_i (aw_i aw_0)) (by decide)) fun p e s m args below meth c X => V.sub (lv' := [(0, false, .int a0), (1, false, .int a1)]) [0, 1] rfl (vX1_there X hf)
def fX1_panel (D : aD) (h : aH) (a0 : Option Nat) (a1 : Int32) : Option ((Nat ⊕ Option Nat) × aH) :=
  (gR h 0 1 a0).bind fun x1 =>
  (gR h 0 1 a0).bind fun x2 =>
  (aIs h 15 x2).bind fun _ =>
  (fJ2_size D h x2).bind fun x4 =>
  bndT (fX1_there D h a1 x4) fun x7 h8 =>
  (aIs h8 15 x1).bind fun _ =>
  (fJ2_get D h8 x1 x7).bind fun x10 =>
  (aCast h8 [2] x10).bind fun _ =>
  some (.inr x10, h8)
theorem vX1_panel {h : aH} {a0 : Option Nat} {a1 : Int32} {q : Nat ⊕ Option Nat} {g : aH} (X : aX p l R s m meth c D n0 s0 yX1_panel cX1_panel 7 103 2 (some (.object "FigureSurvey$Panel")) h0) (hf : fX1_panel D h a0 a1 = some (q, g)) : V p l e R s m args below meth c D n0 s0 (aEnd D below args s h0 (wA q, g)) h 0 [(0, false, va_rf a0), (1, false, .int a1)] [] := by
  have C := X.1
  unfold fX1_panel at hf
  refine v_aload_n (pc := 0) (j := 0) C dX1_panel_0 rfl rfl ?_
  obtain ⟨x1, ex1, hf⟩ := oB hf
  refine v_getF (pc := 1) C lk_X1_49 (gR_eq ex1) dX1_panel_1 ?_
  refine v_iload_n (pc := 4) (j := 1) C dX1_panel_4 rfl rfl ?_
  refine v_aload_n (pc := 5) (j := 0) C dX1_panel_5 rfl rfl ?_
  obtain ⟨x2, ex2, hf⟩ := oB hf
  refine v_getF (pc := 6) C lk_X1_49 (gR_eq ex2) dX1_panel_6 ?_
  obtain ⟨b3, eb3, hf⟩ := oB hf
  obtain ⟨rb3, _, kb3⟩ := aIs_eq eb3
  obtain ⟨x4, ex4, hf⟩ := oB hf
  refine v_call (pc := 9) (d_V (pc := 9) C (As := []) (rest := [.int a1, va_rf x1]) rb3 kb3 nt_15 q375 yi_J2_size_java_util_ArrayList yk_J2_size rfl (by decide) (by decide) (Nat.le_trans (aw_i (aw_r aw_0)) (by decide)) rfl (mJ2_size C.st ex4) dX1_panel_9) ?_
  rcases bndT_eq hf with ⟨_, _, ex7, qx7⟩ | ⟨x7, h8, ex7, hf⟩
  · cases qx7; exact v_ofDx (pc := 12) C X.2.1 X.2.2.1 rfl X.2.2.2.2.1 (d_S (pc := 12) C (As := [.int a1, .int x4]) (rest := [va_rf x1]) q1709 q1710 yk_X1_there rfl (by decide) (by decide) (Nat.le_trans (aw_r aw_0) (by decide)) rfl (mX1_there C.st ex7) dX1_panel_12)
  refine v_call (pc := 12) (d_S (pc := 12) C (As := [.int a1, .int x4]) (rest := [va_rf x1]) q1709 q1710 yk_X1_there rfl (by decide) (by decide) (Nat.le_trans (aw_r aw_0) (by decide)) rfl (mX1_there C.st ex7) dX1_panel_12) ?_
  obtain ⟨b9, eb9, hf⟩ := oB hf
  obtain ⟨rb9, _, kb9⟩ := aIs_eq eb9
  obtain ⟨x10, ex10, hf⟩ := oB hf
  refine v_call (pc := 15) (d_V (pc := 15) C (As := [.int x7]) (rest := []) rb9 kb9 nt_15 q379 yi_J2_get_java_util_ArrayList yk_J2_get rfl (by decide) (by decide) (Nat.le_trans aw_0 (by decide)) rfl (mJ2_get C.st ex10) dX1_panel_15) ?_
  obtain ⟨_, e12, hf⟩ := oB hf
  refine v_cast (pc := 18) C q393 ct_FigureSurvey_Panel e12 dX1_panel_18 ?_
  cases hf
  exact v_areturn (pc := 21) C X.2.1 X.2.2.1 X.2.2.2.1 (Or.inl ⟨_, rfl⟩) rfl dX1_panel_21
theorem mX1_panel {l : Launch} {D : aD} {h : aH} {a0 : Option Nat} {a1 : Int32} {q : Nat ⊕ Option Nat} {g : aH} (hst : l.stackTraces = false) (hf : fX1_panel D h a0 a1 = some (q, g)) : aM l D yX1_panel cX1_panel 2 (some (.object "FigureSurvey$Panel")) 7 103 [va_rf a0, .int a1] h (wA q, g) :=
  aM.ofX [(false, va_rf a0), (false, .int a1)] rfl (ap_r (ap_c rfl ap_0)) (by decide +kernel) hst (al_of (aw_r (aw_i aw_0)) (by decide)) fun p e s m args below meth c X => V.sub (lv' := [(0, false, va_rf a0), (1, false, .int a1)]) [0, 1] rfl (vX1_panel X hf)
def fX1_setDepth_p37 (D : aD) (h : aH) (a2 : Int32) (a3 : Int32) (a4 : Option Nat) (t0 : Int32) : Option ((Nat ⊕ Int32) × aH) :=
  bndT (fX1_must D h t0) fun _ h3 =>
  (gR h3 2 2 a4).bind fun x4 =>
  (eI h3 x4 a2).bind fun x5 =>
  (gR h3 2 2 a4).bind fun x6 =>
  (sF D h3 100 x6 a2 (.int a3)).bind fun h7 =>
  some (.inr x5, h7)
theorem vX1_setDepth_p37 {h : aH} {a2 : Int32} {a3 : Int32} {a4 : Option Nat} {t0 : Int32} {q : Nat ⊕ Int32} {g : aH} (X : aX p l R s m meth c D n0 s0 yX1_setDepth cX1_setDepth 8 124 6 (some .int) h0) (hf : fX1_setDepth_p37 D h a2 a3 a4 t0 = some (q, g)) : V p l e R s m args below meth c D n0 s0 (aEnd D below args s h0 (wI q, g)) h 37 [(2, false, .int a2), (3, false, .int a3), (4, false, va_rf a4)] [.int t0] := by
  have C := X.1
  unfold fX1_setDepth_p37 at hf
  rcases bndT_eq hf with ⟨_, _, ex2, qx2⟩ | ⟨x2, h3, ex2, hf⟩
  · cases qx2; exact v_ofDx (pc := 37) C X.2.1 X.2.2.1 rfl X.2.2.2.2.1 (d_S (pc := 37) C (As := [.int t0]) (rest := []) q1595 q1596 yk_X1_must rfl (by decide) (by decide) (Nat.le_trans aw_0 (by decide)) rfl (mX1_must C.st ex2) dX1_setDepth_37)
  refine v_callU (pc := 37) (d_S (pc := 37) C (As := [.int t0]) (rest := []) q1595 q1596 yk_X1_must rfl (by decide) (by decide) (Nat.le_trans aw_0 (by decide)) rfl (mX1_must C.st ex2) dX1_setDepth_37) ?_
  refine v_aload (pc := 40) (j := 2) C dX1_setDepth_40 rfl ?_
  obtain ⟨x4, ex4, hf⟩ := oB hf
  refine v_getF (pc := 42) C lk_X1_183 (gR_eq ex4) dX1_setDepth_42 ?_
  refine v_iload_n (pc := 45) (j := 0) C dX1_setDepth_45 rfl rfl ?_
  obtain ⟨x5, ex5, hf⟩ := oB hf
  refine v_iaload (pc := 46) C ex5 dX1_setDepth_46 ?_
  refine v_istore (pc := 47) (lv' := [(5, false, .int x5), (2, false, .int a2), (3, false, .int a3), (4, false, va_rf a4)]) C dX1_setDepth_47 (by decide) rfl ?_
  refine v_aload (pc := 49) (j := 3) C dX1_setDepth_49 rfl ?_
  obtain ⟨x6, ex6, hf⟩ := oB hf
  refine v_getF (pc := 51) C lk_X1_183 (gR_eq ex6) dX1_setDepth_51 ?_
  refine v_iload_n (pc := 54) (j := 1) C dX1_setDepth_54 rfl rfl ?_
  refine v_iload_n (pc := 55) (j := 2) C dX1_setDepth_55 rfl rfl ?_
  obtain ⟨h7, eh7, hf⟩ := oB hf
  refine v_iastore (pc := 56) C eh7 dX1_setDepth_56 ?_
  refine v_iload (pc := 57) (j := 0) C dX1_setDepth_57 rfl ?_
  cases hf
  exact v_ireturn (pc := 59) C X.2.1 X.2.2.1 X.2.2.2.1 rfl dX1_setDepth_59
def fX1_setDepth (D : aD) (h : aH) (a0 : Option Nat) (a1 : Int32) (a2 : Int32) (a3 : Int32) : Option ((Nat ⊕ Int32) × aH) :=
  (aIs h 0 a0).bind fun _ =>
  bndT (fX1_panel D h a0 a1) fun x2 h3 =>
  bndT (fX1_in D h3 a2 (0 : Int32) (63 : Int32)) fun x5 h6 =>
  bndT (fX1_in D h6 a3 (0 : Int32) (15 : Int32)) fun x8 h9 =>
  (aIs h9 0 a0).bind fun _ =>
  (fX1_isDrowned D h9 a0 x2).bind fun x11 =>
  fX1_setDepth_p37 D h9 a2 a3 x2 (if x11 = 0 then (1 : Int32) else (0 : Int32))
theorem vX1_setDepth {h : aH} {a0 : Option Nat} {a1 : Int32} {a2 : Int32} {a3 : Int32} {q : Nat ⊕ Int32} {g : aH} (X : aX p l R s m meth c D n0 s0 yX1_setDepth cX1_setDepth 8 124 6 (some .int) h0) (hf : fX1_setDepth D h a0 a1 a2 a3 = some (q, g)) : V p l e R s m args below meth c D n0 s0 (aEnd D below args s h0 (wI q, g)) h 0 [(0, false, va_rf a0), (1, false, .int a1), (2, false, .int a2), (3, false, .int a3)] [] := by
  have C := X.1
  unfold fX1_setDepth at hf
  refine v_aload_n (pc := 0) (j := 0) C dX1_setDepth_0 rfl rfl ?_
  refine v_iload_n (pc := 1) (j := 1) C dX1_setDepth_1 rfl rfl ?_
  obtain ⟨b1, eb1, hf⟩ := oB hf
  obtain ⟨rb1, _, kb1⟩ := aIs_eq eb1
  rcases bndT_eq hf with ⟨_, _, ex2, qx2⟩ | ⟨x2, h3, ex2, hf⟩
  · cases qx2; exact v_ofDx (pc := 2) C X.2.1 X.2.2.1 rfl X.2.2.2.2.1 (d_V (pc := 2) C (As := [.int a1]) (rest := []) rb1 kb1 nt_0 q1705 yi_X1_panel_FigureSurvey yk_X1_panel rfl (by decide) (by decide) (Nat.le_trans aw_0 (by decide)) rfl (mX1_panel C.st ex2) dX1_setDepth_2)
  refine v_call (pc := 2) (d_V (pc := 2) C (As := [.int a1]) (rest := []) rb1 kb1 nt_0 q1705 yi_X1_panel_FigureSurvey yk_X1_panel rfl (by decide) (by decide) (Nat.le_trans aw_0 (by decide)) rfl (mX1_panel C.st ex2) dX1_setDepth_2) ?_
  refine v_astore (pc := 5) (lv' := [(4, false, va_rf x2), (0, false, va_rf a0), (1, false, .int a1), (2, false, .int a2), (3, false, .int a3)]) C dX1_setDepth_5 (by decide) rfl ?_
  refine v_iload_n (pc := 7) (j := 3) C dX1_setDepth_7 rfl rfl ?_
  refine v_iconst (pc := 8) (v := (0 : Int32)) C dX1_setDepth_8 rfl ?_
  refine v_bipush (pc := 9) (v := (63 : Int32)) C dX1_setDepth_9 rfl ?_
  rcases bndT_eq hf with ⟨_, _, ex5, qx5⟩ | ⟨x5, h6, ex5, hf⟩
  · cases qx5; exact v_ofDx (pc := 11) C X.2.1 X.2.2.1 rfl X.2.2.2.2.1 (d_S (pc := 11) C (As := [.int a2, .int (0 : Int32), .int (63 : Int32)]) (rest := []) q1578 q1579 yk_X1_in rfl (by decide) (by decide) (Nat.le_trans aw_0 (by decide)) rfl (mX1_in C.st ex5) dX1_setDepth_11)
  refine v_call (pc := 11) (d_S (pc := 11) C (As := [.int a2, .int (0 : Int32), .int (63 : Int32)]) (rest := []) q1578 q1579 yk_X1_in rfl (by decide) (by decide) (Nat.le_trans aw_0 (by decide)) rfl (mX1_in C.st ex5) dX1_setDepth_11) ?_
  refine v_pop (pc := 14) C dX1_setDepth_14 rfl ?_
  refine v_iload_n (pc := 15) (j := 4) C dX1_setDepth_15 rfl rfl ?_
  refine v_iconst (pc := 16) (v := (0 : Int32)) C dX1_setDepth_16 rfl ?_
  refine v_bipush (pc := 17) (v := (15 : Int32)) C dX1_setDepth_17 rfl ?_
  rcases bndT_eq hf with ⟨_, _, ex8, qx8⟩ | ⟨x8, h9, ex8, hf⟩
  · cases qx8; exact v_ofDx (pc := 19) C X.2.1 X.2.2.1 rfl X.2.2.2.2.1 (d_S (pc := 19) C (As := [.int a3, .int (0 : Int32), .int (15 : Int32)]) (rest := []) q1578 q1579 yk_X1_in rfl (by decide) (by decide) (Nat.le_trans aw_0 (by decide)) rfl (mX1_in C.st ex8) dX1_setDepth_19)
  refine v_call (pc := 19) (d_S (pc := 19) C (As := [.int a3, .int (0 : Int32), .int (15 : Int32)]) (rest := []) q1578 q1579 yk_X1_in rfl (by decide) (by decide) (Nat.le_trans aw_0 (by decide)) rfl (mX1_in C.st ex8) dX1_setDepth_19) ?_
  refine v_pop (pc := 22) C dX1_setDepth_22 rfl ?_
  refine v_aload_n (pc := 23) (j := 1) C dX1_setDepth_23 rfl rfl ?_
  refine v_aload (pc := 24) (j := 0) C dX1_setDepth_24 rfl ?_
  obtain ⟨b10, eb10, hf⟩ := oB hf
  obtain ⟨rb10, _, kb10⟩ := aIs_eq eb10
  obtain ⟨x11, ex11, hf⟩ := oB hf
  refine v_call (pc := 26) (d_V (pc := 26) C (As := [va_rf x2]) (rest := []) rb10 kb10 nt_0 q398 yi_X1_isDrowned_FigureSurvey yk_X1_isDrowned rfl (by decide) (by decide) (Nat.le_trans aw_0 (by decide)) rfl (mX1_isDrowned C.st ex11) dX1_setDepth_26) ?_
  refine v_if_ne (pc := 29) (tgt := 36) C dX1_setDepth_29 rfl (fun hc => ?_) (fun hc => ?_)
  · simp only [if_neg hc] at hf
    refine v_iconst (pc := 36) (v := (0 : Int32)) C dX1_setDepth_36 rfl ?_
    exact V.sub [3, 4, 0] rfl (vX1_setDepth_p37 X hf)
  · simp only [if_pos (Decidable.of_not_not hc)] at hf
    refine v_iconst (pc := 32) (v := (1 : Int32)) C dX1_setDepth_32 rfl ?_
    refine v_goto (pc := 33) (tgt := 37) C dX1_setDepth_33 rfl ?_
    exact V.sub [3, 4, 0] rfl (vX1_setDepth_p37 X hf)
theorem mX1_setDepth {l : Launch} {D : aD} {h : aH} {a0 : Option Nat} {a1 : Int32} {a2 : Int32} {a3 : Int32} {q : Nat ⊕ Int32} {g : aH} (hst : l.stackTraces = false) (hf : fX1_setDepth D h a0 a1 a2 a3 = some (q, g)) : aM l D yX1_setDepth cX1_setDepth 6 (some .int) 8 124 [va_rf a0, .int a1, .int a2, .int a3] h (wI q, g) :=
  aM.ofX [(false, va_rf a0), (false, .int a1), (false, .int a2), (false, .int a3)] rfl (ap_r (ap_c rfl (ap_c rfl (ap_c rfl ap_0)))) (by decide +kernel) hst (al_of (aw_r (aw_i (aw_i (aw_i aw_0)))) (by decide)) fun p e s m args below meth c X => V.sub (lv' := [(0, false, va_rf a0), (1, false, .int a1), (2, false, .int a2), (3, false, .int a3)]) [0, 1, 2, 3] rfl (vX1_setDepth X hf)
def fX1_light_p37 (D : aD) (h : aH) (a2 : Int32) (a3 : Option Nat) (t0 : Int32) : Option ((Nat ⊕ Int32) × aH) :=
  bndT (fX1_must D h t0) fun _ h3 =>
  (gI h3 2 3 a3).bind fun x4 =>
  (pF D h3 2 3 a3 (.int (x4 ||| ((1 : Int32) <<< (a2 &&& 31))))).bind fun h5 =>
  (gI h5 2 3 a3).bind fun x6 =>
  (fJ19_bitCount D h5 x6).bind fun x8 =>
  some (.inr x8, h5)
theorem vX1_light_p37 {h : aH} {a2 : Int32} {a3 : Option Nat} {t0 : Int32} {q : Nat ⊕ Int32} {g : aH} (X : aX p l R s m meth c D n0 s0 yX1_light cX1_light 8 124 4 (some .int) h0) (hf : fX1_light_p37 D h a2 a3 t0 = some (q, g)) : V p l e R s m args below meth c D n0 s0 (aEnd D below args s h0 (wI q, g)) h 37 [(2, false, .int a2), (3, false, va_rf a3)] [.int t0] := by
  have C := X.1
  unfold fX1_light_p37 at hf
  rcases bndT_eq hf with ⟨_, _, ex2, qx2⟩ | ⟨x2, h3, ex2, hf⟩
  · cases qx2; exact v_ofDx (pc := 37) C X.2.1 X.2.2.1 rfl X.2.2.2.2.1 (d_S (pc := 37) C (As := [.int t0]) (rest := []) q1595 q1596 yk_X1_must rfl (by decide) (by decide) (Nat.le_trans aw_0 (by decide)) rfl (mX1_must C.st ex2) dX1_light_37)
  refine v_callU (pc := 37) (d_S (pc := 37) C (As := [.int t0]) (rest := []) q1595 q1596 yk_X1_must rfl (by decide) (by decide) (Nat.le_trans aw_0 (by decide)) rfl (mX1_must C.st ex2) dX1_light_37) ?_
  refine v_aload_n (pc := 40) (j := 1) C dX1_light_40 rfl rfl ?_
  refine v_dup (pc := 41) C dX1_light_41 (va_rfc _) ?_
  obtain ⟨x4, ex4, hf⟩ := oB hf
  refine v_getF (pc := 42) C lk_X1_186 (gI_eq ex4) dX1_light_42 ?_
  refine v_iconst (pc := 45) (v := (1 : Int32)) C dX1_light_45 rfl ?_
  refine v_iload_n (pc := 46) (j := 0) C dX1_light_46 rfl rfl ?_
  refine v_ishl (pc := 47) C dX1_light_47 ?_
  refine v_ior (pc := 48) C dX1_light_48 ?_
  obtain ⟨h5, eh5, hf⟩ := oB hf
  refine v_putF (pc := 49) C lk_X1_186 tyX3 tyX3_ok nmX3 (tyX3_ok 3 (by decide)) rfl rfl eh5 dX1_light_49 ?_
  refine v_aload_n (pc := 52) (j := 1) C dX1_light_52 rfl rfl ?_
  obtain ⟨x6, ex6, hf⟩ := oB hf
  refine v_getF (pc := 53) C lk_X1_186 (gI_eq ex6) dX1_light_53 ?_
  obtain ⟨x8, ex8, hf⟩ := oB hf
  refine v_call (pc := 56) (d_S (pc := 56) C (As := [.int x6]) (rest := []) q402 q403 yk_J19_bitCount rfl (by decide) (by decide) (Nat.le_trans aw_0 (by decide)) rfl (mJ19_bitCount C.st ex8) dX1_light_56) ?_
  cases hf
  exact v_ireturn (pc := 59) C X.2.1 X.2.2.1 X.2.2.2.1 rfl dX1_light_59
def fX1_light (D : aD) (h : aH) (a0 : Option Nat) (a1 : Int32) (a2 : Int32) : Option ((Nat ⊕ Int32) × aH) :=
  (aIs h 0 a0).bind fun _ =>
  bndT (fX1_panel D h a0 a1) fun x2 h3 =>
  bndT (fX1_in D h3 a2 (0 : Int32) (3 : Int32)) fun x5 h6 =>
  (aIs h6 0 a0).bind fun _ =>
  (fX1_isDrowned D h6 a0 x2).bind fun x8 =>
  if x8 = 0 then
  ((gI h6 2 3 x2).bind fun x10 =>
  (fX1_has_2 D h6 x10 a2).bind fun x12 =>
  fX1_light_p37 D h6 a2 x2 (if x12 = 0 then (1 : Int32) else (0 : Int32)))
  else
  (fX1_light_p37 D h6 a2 x2 (0 : Int32))
theorem vX1_light {h : aH} {a0 : Option Nat} {a1 : Int32} {a2 : Int32} {q : Nat ⊕ Int32} {g : aH} (X : aX p l R s m meth c D n0 s0 yX1_light cX1_light 8 124 4 (some .int) h0) (hf : fX1_light D h a0 a1 a2 = some (q, g)) : V p l e R s m args below meth c D n0 s0 (aEnd D below args s h0 (wI q, g)) h 0 [(0, false, va_rf a0), (1, false, .int a1), (2, false, .int a2)] [] := by
  have C := X.1
  unfold fX1_light at hf
  refine v_aload_n (pc := 0) (j := 0) C dX1_light_0 rfl rfl ?_
  refine v_iload_n (pc := 1) (j := 1) C dX1_light_1 rfl rfl ?_
  obtain ⟨b1, eb1, hf⟩ := oB hf
  obtain ⟨rb1, _, kb1⟩ := aIs_eq eb1
  rcases bndT_eq hf with ⟨_, _, ex2, qx2⟩ | ⟨x2, h3, ex2, hf⟩
  · cases qx2; exact v_ofDx (pc := 2) C X.2.1 X.2.2.1 rfl X.2.2.2.2.1 (d_V (pc := 2) C (As := [.int a1]) (rest := []) rb1 kb1 nt_0 q1705 yi_X1_panel_FigureSurvey yk_X1_panel rfl (by decide) (by decide) (Nat.le_trans aw_0 (by decide)) rfl (mX1_panel C.st ex2) dX1_light_2)
  refine v_call (pc := 2) (d_V (pc := 2) C (As := [.int a1]) (rest := []) rb1 kb1 nt_0 q1705 yi_X1_panel_FigureSurvey yk_X1_panel rfl (by decide) (by decide) (Nat.le_trans aw_0 (by decide)) rfl (mX1_panel C.st ex2) dX1_light_2) ?_
  refine v_astore_n (pc := 5) (lv' := [(3, false, va_rf x2), (0, false, va_rf a0), (1, false, .int a1), (2, false, .int a2)]) C dX1_light_5 rfl (by decide) rfl ?_
  refine v_iload_n (pc := 6) (j := 3) C dX1_light_6 rfl rfl ?_
  refine v_iconst (pc := 7) (v := (0 : Int32)) C dX1_light_7 rfl ?_
  refine v_iconst (pc := 8) (v := (3 : Int32)) C dX1_light_8 rfl ?_
  rcases bndT_eq hf with ⟨_, _, ex5, qx5⟩ | ⟨x5, h6, ex5, hf⟩
  · cases qx5; exact v_ofDx (pc := 9) C X.2.1 X.2.2.1 rfl X.2.2.2.2.1 (d_S (pc := 9) C (As := [.int a2, .int (0 : Int32), .int (3 : Int32)]) (rest := []) q1578 q1579 yk_X1_in rfl (by decide) (by decide) (Nat.le_trans aw_0 (by decide)) rfl (mX1_in C.st ex5) dX1_light_9)
  refine v_call (pc := 9) (d_S (pc := 9) C (As := [.int a2, .int (0 : Int32), .int (3 : Int32)]) (rest := []) q1578 q1579 yk_X1_in rfl (by decide) (by decide) (Nat.le_trans aw_0 (by decide)) rfl (mX1_in C.st ex5) dX1_light_9) ?_
  refine v_pop (pc := 12) C dX1_light_12 rfl ?_
  refine v_aload_n (pc := 13) (j := 1) C dX1_light_13 rfl rfl ?_
  refine v_aload_n (pc := 14) (j := 0) C dX1_light_14 rfl rfl ?_
  obtain ⟨b7, eb7, hf⟩ := oB hf
  obtain ⟨rb7, _, kb7⟩ := aIs_eq eb7
  obtain ⟨x8, ex8, hf⟩ := oB hf
  refine v_call (pc := 15) (d_V (pc := 15) C (As := [va_rf x2]) (rest := []) rb7 kb7 nt_0 q398 yi_X1_isDrowned_FigureSurvey yk_X1_isDrowned rfl (by decide) (by decide) (Nat.le_trans aw_0 (by decide)) rfl (mX1_isDrowned C.st ex8) dX1_light_15) ?_
  refine v_if_ne (pc := 18) (tgt := 36) C dX1_light_18 rfl (fun hc => ?_) (fun hc => ?_)
  · rw [if_neg hc] at hf
    refine v_iconst (pc := 36) (v := (0 : Int32)) C dX1_light_36 rfl ?_
    exact V.sub [3, 0] rfl (vX1_light_p37 X hf)
  · rw [if_pos (Decidable.of_not_not hc)] at hf
    refine v_aload_n (pc := 21) (j := 0) C dX1_light_21 rfl rfl ?_
    obtain ⟨x10, ex10, hf⟩ := oB hf
    refine v_getF (pc := 22) C lk_X1_186 (gI_eq ex10) dX1_light_22 ?_
    refine v_iload_n (pc := 25) (j := 3) C dX1_light_25 rfl rfl ?_
    obtain ⟨x12, ex12, hf⟩ := oB hf
    refine v_call (pc := 26) (d_S (pc := 26) C (As := [.int x10, .int a2]) (rest := []) q1251 q1244 yk_X1_has_2 rfl (by decide) (by decide) (Nat.le_trans aw_0 (by decide)) rfl (mX1_has_2 C.st ex12) dX1_light_26) ?_
    refine v_if_ne (pc := 29) (tgt := 36) C dX1_light_29 rfl (fun hc => ?_) (fun hc => ?_)
    · simp only [if_neg hc] at hf
      refine v_iconst (pc := 36) (v := (0 : Int32)) C dX1_light_36 rfl ?_
      exact V.sub [3, 0] rfl (vX1_light_p37 X hf)
    · simp only [if_pos (Decidable.of_not_not hc)] at hf
      refine v_iconst (pc := 32) (v := (1 : Int32)) C dX1_light_32 rfl ?_
      refine v_goto (pc := 33) (tgt := 37) C dX1_light_33 rfl ?_
      exact V.sub [3, 0] rfl (vX1_light_p37 X hf)
theorem mX1_light {l : Launch} {D : aD} {h : aH} {a0 : Option Nat} {a1 : Int32} {a2 : Int32} {q : Nat ⊕ Int32} {g : aH} (hst : l.stackTraces = false) (hf : fX1_light D h a0 a1 a2 = some (q, g)) : aM l D yX1_light cX1_light 4 (some .int) 8 124 [va_rf a0, .int a1, .int a2] h (wI q, g) :=
  aM.ofX [(false, va_rf a0), (false, .int a1), (false, .int a2)] rfl (ap_r (ap_c rfl (ap_c rfl ap_0))) (by decide +kernel) hst (al_of (aw_r (aw_i (aw_i aw_0))) (by decide)) fun p e s m args below meth c X => V.sub (lv' := [(0, false, va_rf a0), (1, false, .int a1), (2, false, .int a2)]) [0, 1, 2] rfl (vX1_light X hf)
def fX1_right (D : aD) (h : aH) (a0 : Int32) : Option ((Nat ⊕ Unit) × aH) :=
  if a0 = 0 then
  ((aThr D h).bind fun h1 =>
  some (.inl 2, h1))
  else
  (some (.inr (), h))
theorem vX1_right {h : aH} {a0 : Int32} {q : Nat ⊕ Unit} {g : aH} (X : aX p l R s m meth c D n0 s0 yX1_right cX1_right 6 82 1 (none) h0) (hf : fX1_right D h a0 = some (q, g)) : V p l e R s m args below meth c D n0 s0 (aEnd D below args s h0 (wU q, g)) h 0 [(0, false, .int a0)] [] := by
  have C := X.1
  unfold fX1_right at hf
  refine v_iload_n (pc := 0) (j := 0) C dX1_right_0 rfl rfl ?_
  refine v_if_ne (pc := 1) (tgt := 14) C dX1_right_1 rfl (fun hc => ?_) (fun hc => ?_)
  · rw [if_neg hc] at hf
    cases hf
    exact v_return (pc := 14) C X.2.1 X.2.2.1 X.2.2.2.1 rfl dX1_right_14
  · rw [if_pos (Decidable.of_not_not hc)] at hf
    obtain ⟨h1, eh1, hf⟩ := oB hf
    cases hf
    exact v_throw (pc := 4) C X.2.1 X.2.2.1 X.2.2.2.2.1 (is := 126) (text := "not such a one") (cls := "java/lang/IllegalArgumentException") (by decide +kernel) (by decide +kernel) q1581 q84 aTh_2 rfl eh1 rfl (by decide) (Nat.le_trans (Nat.add_le_add_right aw_0 82) (by decide)) dX1_right_4 dX1_right_7 dX1_right_8 dX1_right_10 dX1_right_13
theorem mX1_right {l : Launch} {D : aD} {h : aH} {a0 : Int32} {q : Nat ⊕ Unit} {g : aH} (hst : l.stackTraces = false) (hf : fX1_right D h a0 = some (q, g)) : aM l D yX1_right cX1_right 1 (none) 6 82 [.int a0] h (wU q, g) :=
  aM.ofX [(false, .int a0)] rfl (ap_c rfl ap_0) (by decide +kernel) hst (al_of (aw_i aw_0) (by decide)) fun p e s m args below meth c X => V.sub (lv' := [(0, false, .int a0)]) [0] rfl (vX1_right X hf)
def fX1_addStroke_p47 (D : aD) (h : aH) (a0 : Option Nat) (a2 : Int64) (a4 : Option Nat) (t0 : Int32) : Option ((Nat ⊕ Int32) × aH) :=
  bndT (fX1_must D h t0) fun _ h3 =>
  (gR h3 0 2 a0).bind fun x4 =>
  (aMk D h3 (3, dfX4)).bind fun h5 =>
  (fX4_init D h5 (some h3.1) a4 a2).bind fun h8 =>
  (aIs h8 15 x4).bind fun _ =>
  bnd2 (fJ2_add D h8 x4 (some h3.1)) fun x10 h11 =>
  (gR h11 0 2 a0).bind fun x12 =>
  (aIs h11 15 x12).bind fun _ =>
  (fJ2_size D h11 x12).bind fun x14 =>
  some (.inr (x14 - (1 : Int32)), h11)
theorem vX1_addStroke_p47 {h : aH} {a0 : Option Nat} {a2 : Int64} {a4 : Option Nat} {t0 : Int32} {q : Nat ⊕ Int32} {g : aH} (X : aX p l R s m meth c D n0 s0 yX1_addStroke cX1_addStroke 8 152 5 (some .int) h0) (hf : fX1_addStroke_p47 D h a0 a2 a4 t0 = some (q, g)) : V p l e R s m args below meth c D n0 s0 (aEnd D below args s h0 (wI q, g)) h 47 [(0, false, va_rf a0), (2, true, .long a2), (4, false, va_rf a4)] [.int t0] := by
  have C := X.1
  unfold fX1_addStroke_p47 at hf
  rcases bndT_eq hf with ⟨_, _, ex2, qx2⟩ | ⟨x2, h3, ex2, hf⟩
  · cases qx2; exact v_ofDx (pc := 47) C X.2.1 X.2.2.1 rfl X.2.2.2.2.1 (d_S (pc := 47) C (As := [.int t0]) (rest := []) q1595 q1596 yk_X1_must rfl (by decide) (by decide) (Nat.le_trans aw_0 (by decide)) rfl (mX1_must C.st ex2) dX1_addStroke_47)
  refine v_callU (pc := 47) (d_S (pc := 47) C (As := [.int t0]) (rest := []) q1595 q1596 yk_X1_must rfl (by decide) (by decide) (Nat.le_trans aw_0 (by decide)) rfl (mX1_must C.st ex2) dX1_addStroke_47) ?_
  refine v_aload_n (pc := 50) (j := 0) C dX1_addStroke_50 rfl rfl ?_
  obtain ⟨x4, ex4, hf⟩ := oB hf
  refine v_getF (pc := 51) C lk_X1_53 (gR_eq ex4) dX1_addStroke_51 ?_
  obtain ⟨h5, eh5, hf⟩ := oB hf
  refine v_new (pc := 54) (t := 3) (fs := dfX4) (T := TX4) (N := 3) C rfl in_X4 tyX4 tyX4_ok q1776 q1777 q98 dfX4_ok rfl eh5 dX1_addStroke_54 ?_
  refine v_dup (pc := 57) C dX1_addStroke_57 (va_rfc _) ?_
  refine v_aload (pc := 58) (j := 2) C dX1_addStroke_58 rfl ?_
  refine v_lload_n (pc := 60) (j := 1) C dX1_addStroke_60 rfl rfl ?_
  obtain ⟨h8, ex7, hf⟩ := oB hf
  refine v_callU (pc := 61) (d_I (pc := 61) C (As := [va_rf a4, .long a2]) (rest := [va_rf (some h3.1), va_rf x4]) rfl rfl rfl q1778 q1779 yk_X4_init rfl (by decide) (by decide) (Nat.le_trans (aw_r (aw_r aw_0)) (by decide)) rfl (mX4_init C.st ex7) dX1_addStroke_61) ?_
  obtain ⟨b9, eb9, hf⟩ := oB hf
  obtain ⟨rb9, _, kb9⟩ := aIs_eq eb9
  obtain ⟨x10, h11, ex10, hf⟩ := bnd2_eq hf
  refine v_call (pc := 64) (d_V (pc := 64) C (As := [va_rf (some h3.1)]) (rest := []) rb9 kb9 nt_15 q1673 yi_J2_add_java_util_ArrayList yk_J2_add rfl (by decide) (by decide) (Nat.le_trans aw_0 (by decide)) rfl (mJ2_add C.st ex10) dX1_addStroke_64) ?_
  refine v_pop (pc := 67) C dX1_addStroke_67 rfl ?_
  refine v_aload_n (pc := 68) (j := 0) C dX1_addStroke_68 rfl rfl ?_
  obtain ⟨x12, ex12, hf⟩ := oB hf
  refine v_getF (pc := 69) C lk_X1_53 (gR_eq ex12) dX1_addStroke_69 ?_
  obtain ⟨b13, eb13, hf⟩ := oB hf
  obtain ⟨rb13, _, kb13⟩ := aIs_eq eb13
  obtain ⟨x14, ex14, hf⟩ := oB hf
  refine v_call (pc := 72) (d_V (pc := 72) C (As := []) (rest := []) rb13 kb13 nt_15 q375 yi_J2_size_java_util_ArrayList yk_J2_size rfl (by decide) (by decide) (Nat.le_trans aw_0 (by decide)) rfl (mJ2_size C.st ex14) dX1_addStroke_72) ?_
  refine v_iconst (pc := 75) (v := (1 : Int32)) C dX1_addStroke_75 rfl ?_
  refine v_isub (pc := 76) C dX1_addStroke_76 ?_
  cases hf
  exact v_ireturn (pc := 77) C X.2.1 X.2.2.1 X.2.2.2.1 rfl dX1_addStroke_77
def fX1_addStroke_p18 (D : aD) (h : aH) (a0 : Option Nat) (a2 : Int64) (a4 : Option Nat) (t0 : Int32) : Option ((Nat ⊕ Int32) × aH) :=
  bndT (fX1_right D h t0) fun _ h3 =>
  (aIs h3 0 a0).bind fun _ =>
  (fX1_isDrowned D h3 a0 a4).bind fun x5 =>
  if x5 = 0 then
  ((gR h3 0 2 a0).bind fun x7 =>
  (aIs h3 15 x7).bind fun _ =>
  (fJ2_size D h3 x7).bind fun x9 =>
  fX1_addStroke_p47 D h3 a0 a2 a4 (if (60 : Int32) ≤ x9 then (0 : Int32) else (1 : Int32)))
  else
  (fX1_addStroke_p47 D h3 a0 a2 a4 (0 : Int32))
theorem vX1_addStroke_p18 {h : aH} {a0 : Option Nat} {a2 : Int64} {a4 : Option Nat} {t0 : Int32} {q : Nat ⊕ Int32} {g : aH} (X : aX p l R s m meth c D n0 s0 yX1_addStroke cX1_addStroke 8 152 5 (some .int) h0) (hf : fX1_addStroke_p18 D h a0 a2 a4 t0 = some (q, g)) : V p l e R s m args below meth c D n0 s0 (aEnd D below args s h0 (wI q, g)) h 18 [(0, false, va_rf a0), (2, true, .long a2), (4, false, va_rf a4)] [.int t0] := by
  have C := X.1
  unfold fX1_addStroke_p18 at hf
  rcases bndT_eq hf with ⟨_, _, ex2, qx2⟩ | ⟨x2, h3, ex2, hf⟩
  · cases qx2; exact v_ofDx (pc := 18) C X.2.1 X.2.2.1 rfl X.2.2.2.2.1 (d_S (pc := 18) C (As := [.int t0]) (rest := []) q1772 q1773 yk_X1_right rfl (by decide) (by decide) (Nat.le_trans aw_0 (by decide)) rfl (mX1_right C.st ex2) dX1_addStroke_18)
  refine v_callU (pc := 18) (d_S (pc := 18) C (As := [.int t0]) (rest := []) q1772 q1773 yk_X1_right rfl (by decide) (by decide) (Nat.le_trans aw_0 (by decide)) rfl (mX1_right C.st ex2) dX1_addStroke_18) ?_
  refine v_aload_n (pc := 21) (j := 0) C dX1_addStroke_21 rfl rfl ?_
  refine v_aload (pc := 22) (j := 2) C dX1_addStroke_22 rfl ?_
  obtain ⟨b4, eb4, hf⟩ := oB hf
  obtain ⟨rb4, _, kb4⟩ := aIs_eq eb4
  obtain ⟨x5, ex5, hf⟩ := oB hf
  refine v_call (pc := 24) (d_V (pc := 24) C (As := [va_rf a4]) (rest := []) rb4 kb4 nt_0 q398 yi_X1_isDrowned_FigureSurvey yk_X1_isDrowned rfl (by decide) (by decide) (Nat.le_trans aw_0 (by decide)) rfl (mX1_isDrowned C.st ex5) dX1_addStroke_24) ?_
  refine v_if_ne (pc := 27) (tgt := 46) C dX1_addStroke_27 rfl (fun hc => ?_) (fun hc => ?_)
  · rw [if_neg hc] at hf
    refine v_iconst (pc := 46) (v := (0 : Int32)) C dX1_addStroke_46 rfl ?_
    exact V.sub [0, 1, 2] rfl (vX1_addStroke_p47 X hf)
  · rw [if_pos (Decidable.of_not_not hc)] at hf
    refine v_aload_n (pc := 30) (j := 0) C dX1_addStroke_30 rfl rfl ?_
    obtain ⟨x7, ex7, hf⟩ := oB hf
    refine v_getF (pc := 31) C lk_X1_53 (gR_eq ex7) dX1_addStroke_31 ?_
    obtain ⟨b8, eb8, hf⟩ := oB hf
    obtain ⟨rb8, _, kb8⟩ := aIs_eq eb8
    obtain ⟨x9, ex9, hf⟩ := oB hf
    refine v_call (pc := 34) (d_V (pc := 34) C (As := []) (rest := []) rb8 kb8 nt_15 q375 yi_J2_size_java_util_ArrayList yk_J2_size rfl (by decide) (by decide) (Nat.le_trans aw_0 (by decide)) rfl (mJ2_size C.st ex9) dX1_addStroke_34) ?_
    refine v_bipush (pc := 37) (v := (60 : Int32)) C dX1_addStroke_37 rfl ?_
    refine v_icmp_ge (pc := 39) (tgt := 46) C dX1_addStroke_39 rfl (fun hc => ?_) (fun hc => ?_)
    · simp only [if_pos hc] at hf
      refine v_iconst (pc := 46) (v := (0 : Int32)) C dX1_addStroke_46 rfl ?_
      exact V.sub [0, 1, 2] rfl (vX1_addStroke_p47 X hf)
    · simp only [if_neg hc] at hf
      refine v_iconst (pc := 42) (v := (1 : Int32)) C dX1_addStroke_42 rfl ?_
      refine v_goto (pc := 43) (tgt := 47) C dX1_addStroke_43 rfl ?_
      exact V.sub [0, 1, 2] rfl (vX1_addStroke_p47 X hf)
def fX1_addStroke (D : aD) (h : aH) (a0 : Option Nat) (a1 : Int32) (a2 : Int64) : Option ((Nat ⊕ Int32) × aH) :=
  (aIs h 0 a0).bind fun _ =>
  bndT (fX1_panel D h a0 a1) fun x2 h3 =>
  fX1_addStroke_p18 D h3 a0 a2 x2 (if (lg_cmp a2 (0 : Int64)) = 0 then (0 : Int32) else (1 : Int32))
theorem vX1_addStroke {h : aH} {a0 : Option Nat} {a1 : Int32} {a2 : Int64} {q : Nat ⊕ Int32} {g : aH} (X : aX p l R s m meth c D n0 s0 yX1_addStroke cX1_addStroke 8 152 5 (some .int) h0) (hf : fX1_addStroke D h a0 a1 a2 = some (q, g)) : V p l e R s m args below meth c D n0 s0 (aEnd D below args s h0 (wI q, g)) h 0 [(0, false, va_rf a0), (1, false, .int a1), (2, true, .long a2)] [] := by
  have C := X.1
  unfold fX1_addStroke at hf
  refine v_aload_n (pc := 0) (j := 0) C dX1_addStroke_0 rfl rfl ?_
  refine v_iload_n (pc := 1) (j := 1) C dX1_addStroke_1 rfl rfl ?_
  obtain ⟨b1, eb1, hf⟩ := oB hf
  obtain ⟨rb1, _, kb1⟩ := aIs_eq eb1
  rcases bndT_eq hf with ⟨_, _, ex2, qx2⟩ | ⟨x2, h3, ex2, hf⟩
  · cases qx2; exact v_ofDx (pc := 2) C X.2.1 X.2.2.1 rfl X.2.2.2.2.1 (d_V (pc := 2) C (As := [.int a1]) (rest := []) rb1 kb1 nt_0 q1705 yi_X1_panel_FigureSurvey yk_X1_panel rfl (by decide) (by decide) (Nat.le_trans aw_0 (by decide)) rfl (mX1_panel C.st ex2) dX1_addStroke_2)
  refine v_call (pc := 2) (d_V (pc := 2) C (As := [.int a1]) (rest := []) rb1 kb1 nt_0 q1705 yi_X1_panel_FigureSurvey yk_X1_panel rfl (by decide) (by decide) (Nat.le_trans aw_0 (by decide)) rfl (mX1_panel C.st ex2) dX1_addStroke_2) ?_
  refine v_astore (pc := 5) (lv' := [(4, false, va_rf x2), (0, false, va_rf a0), (1, false, .int a1), (2, true, .long a2)]) C dX1_addStroke_5 (by decide) rfl ?_
  refine v_lload_n (pc := 7) (j := 3) C dX1_addStroke_7 rfl rfl ?_
  refine v_lconst (pc := 8) (v := (0 : Int64)) C dX1_addStroke_8 rfl ?_
  refine v_lcmp (pc := 9) C dX1_addStroke_9 ?_
  refine v_if_eq (pc := 10) (tgt := 17) C dX1_addStroke_10 rfl (fun hc => ?_) (fun hc => ?_)
  · simp only [if_pos hc] at hf
    refine v_iconst (pc := 17) (v := (0 : Int32)) C dX1_addStroke_17 rfl ?_
    exact V.sub [1, 3, 0] rfl (vX1_addStroke_p18 X hf)
  · simp only [if_neg hc] at hf
    refine v_iconst (pc := 13) (v := (1 : Int32)) C dX1_addStroke_13 rfl ?_
    refine v_goto (pc := 14) (tgt := 18) C dX1_addStroke_14 rfl ?_
    exact V.sub [1, 3, 0] rfl (vX1_addStroke_p18 X hf)
theorem mX1_addStroke {l : Launch} {D : aD} {h : aH} {a0 : Option Nat} {a1 : Int32} {a2 : Int64} {q : Nat ⊕ Int32} {g : aH} (hst : l.stackTraces = false) (hf : fX1_addStroke D h a0 a1 a2 = some (q, g)) : aM l D yX1_addStroke cX1_addStroke 5 (some .int) 8 152 [va_rf a0, .int a1, .long a2] h (wI q, g) :=
  aM.ofX [(false, va_rf a0), (false, .int a1), (true, .long a2)] rfl (ap_r (ap_c rfl (ap_c rfl ap_0))) (by decide +kernel) hst (al_of (aw_r (aw_i (aw_l aw_0))) (by decide)) fun p e s m args below meth c X => V.sub (lv' := [(0, false, va_rf a0), (1, false, .int a1), (2, true, .long a2)]) [0, 1, 2] rfl (vX1_addStroke X hf)
def fX1_lambda_addFigure_1 (D : aD) (h : aH) (a0 : Option Nat) (a1 : Option Nat) (a2 : Int32) : Option (Int32) :=
  (gR h 0 3 a0).bind fun x1 =>
  (aIs h 15 x1).bind fun _ =>
  (fJ2_get D h x1 a2).bind fun x3 =>
  (aCast h [4] x3).bind fun _ =>
  (gR h 4 1 x3).bind fun x6 =>
  if x6 = a1 then
  (some (1 : Int32))
  else
  (some (0 : Int32))
theorem vX1_lambda_addFigure_1 {h : aH} {a0 : Option Nat} {a1 : Option Nat} {a2 : Int32} {q : Int32} (X : aX p l R s m meth c D n0 s0 yX1_lambda_addFigure_1 cX1_lambda_addFigure_1 3 64 3 (some .boolean) h0) (hf : fX1_lambda_addFigure_1 D h a0 a1 a2 = some q) : V p l e R s m args below meth c D n0 s0 (aEnd D below args s h0 (.inr (some (.int q)), h)) h 0 [(0, false, va_rf a0), (1, false, va_rf a1), (2, false, .int a2)] [] := by
  have C := X.1
  unfold fX1_lambda_addFigure_1 at hf
  refine v_aload_n (pc := 0) (j := 0) C dX1_lambda_addFigure_1_0 rfl rfl ?_
  obtain ⟨x1, ex1, hf⟩ := oB hf
  refine v_getF (pc := 1) C lk_X1_56 (gR_eq ex1) dX1_lambda_addFigure_1_1 ?_
  refine v_iload_n (pc := 4) (j := 2) C dX1_lambda_addFigure_1_4 rfl rfl ?_
  obtain ⟨b2, eb2, hf⟩ := oB hf
  obtain ⟨rb2, _, kb2⟩ := aIs_eq eb2
  obtain ⟨x3, ex3, hf⟩ := oB hf
  refine v_call (pc := 5) (d_V (pc := 5) C (As := [.int a2]) (rest := []) rb2 kb2 nt_15 q379 yi_J2_get_java_util_ArrayList yk_J2_get rfl (by decide) (by decide) (Nat.le_trans aw_0 (by decide)) rfl (mJ2_get C.st ex3) dX1_lambda_addFigure_1_5) ?_
  obtain ⟨_, e5, hf⟩ := oB hf
  refine v_cast (pc := 8) C q514 ct_FigureSurvey_Figure e5 dX1_lambda_addFigure_1_8 ?_
  obtain ⟨x6, ex6, hf⟩ := oB hf
  refine v_getF (pc := 11) C lk_X1_31 (gR_eq ex6) dX1_lambda_addFigure_1_11 ?_
  refine v_aload_n (pc := 14) (j := 1) C dX1_lambda_addFigure_1_14 rfl rfl ?_
  refine v_acmp_ne (pc := 15) (tgt := 22) C dX1_lambda_addFigure_1_15 rfl (fun hc => ?_) (fun hc => ?_)
  · rw [if_neg hc] at hf
    refine v_iconst (pc := 22) (v := (0 : Int32)) C dX1_lambda_addFigure_1_22 rfl ?_
    cases hf
    exact v_zreturn (pc := 23) C X.2.1 X.2.2.1 X.2.2.2.1 (by decide) rfl dX1_lambda_addFigure_1_23
  · rw [if_pos (Decidable.of_not_not hc)] at hf
    refine v_iconst (pc := 18) (v := (1 : Int32)) C dX1_lambda_addFigure_1_18 rfl ?_
    refine v_goto (pc := 19) (tgt := 23) C dX1_lambda_addFigure_1_19 rfl ?_
    cases hf
    exact v_zreturn (pc := 23) C X.2.1 X.2.2.1 X.2.2.2.1 (by decide) rfl dX1_lambda_addFigure_1_23
theorem mX1_lambda_addFigure_1 {l : Launch} {D : aD} {h : aH} {a0 : Option Nat} {a1 : Option Nat} {a2 : Int32} {q : Int32} (hst : l.stackTraces = false) (hf : fX1_lambda_addFigure_1 D h a0 a1 a2 = some q) : aM l D yX1_lambda_addFigure_1 cX1_lambda_addFigure_1 3 (some .boolean) 3 64 [va_rf a0, va_rf a1, .int a2] h (.inr (some (.int q)), h) :=
  aM.ofX [(false, va_rf a0), (false, va_rf a1), (false, .int a2)] rfl (ap_r (ap_r (ap_c rfl ap_0))) (by decide +kernel) hst (al_of (aw_r (aw_r (aw_i aw_0))) (by decide)) fun p e s m args below meth c X => V.sub (lv' := [(0, false, va_rf a0), (1, false, va_rf a1), (2, false, .int a2)]) [0, 1, 2] rfl (vX1_lambda_addFigure_1 X hf)
def fX5_init (D : aD) (h : aH) (a0 : Option Nat) (a1 : Int32) (a2 : Option Nat) : Option (aH) :=
  (a0).bind fun _ =>
  (aMk D h (15, dfJ2)).bind fun h2 =>
  (fJ2_init D h2 (some h.1)).bind fun h5 =>
  (pF D h5 4 2 a0 (va_rf (some h.1))).bind fun h6 =>
  (aMk D h6 (15, dfJ2)).bind fun h7 =>
  (fJ2_init D h7 (some h6.1)).bind fun h10 =>
  (pF D h10 4 3 a0 (va_rf (some h6.1))).bind fun h11 =>
  (aMk D h11 (15, dfJ2)).bind fun h12 =>
  (fJ2_init D h12 (some h11.1)).bind fun h15 =>
  (pF D h15 4 4 a0 (va_rf (some h11.1))).bind fun h16 =>
  (pF D h16 4 0 a0 (.int a1)).bind fun h17 =>
  (pF D h17 4 1 a0 (va_rf a2)).bind fun h18 =>
  some h18
theorem vX5_init {h : aH} {a0 : Option Nat} {a1 : Int32} {a2 : Option Nat} {g : aH} (X : aX p l R s m meth c D n0 s0 yX5_init cX5_init 4 72 3 (none) h0) (hf : fX5_init D h a0 a1 a2 = some g) : V p l e R s m args below meth c D n0 s0 (aEnd D below args s h0 (.inr none, g)) h 0 [(0, false, va_rf a0), (1, false, .int a1), (2, false, va_rf a2)] [] := by
  have C := X.1
  unfold fX5_init at hf
  refine v_aload_n (pc := 0) (j := 0) C dX5_init_0 rfl rfl ?_
  obtain ⟨_, e1, hf⟩ := oB hf
  refine v_objInit (pc := 1) C e1 q1809 q138 q139 (by decide) (Nat.le_trans (Nat.add_le_add_right aw_0 12) (by decide)) dX5_init_1 ?_
  refine v_aload_n (pc := 4) (j := 0) C dX5_init_4 rfl rfl ?_
  obtain ⟨h2, eh2, hf⟩ := oB hf
  refine v_new (pc := 5) (t := 15) (fs := dfJ2) (T := TJ2) (N := 3) C rfl in_J2 tyJ2 tyJ2_ok q1810 q141 q77 dfJ2_ok rfl eh2 dX5_init_5 ?_
  refine v_dup (pc := 8) C dX5_init_8 (va_rfc _) ?_
  obtain ⟨h5, ex4, hf⟩ := oB hf
  refine v_callU (pc := 9) (d_I (pc := 9) C (As := []) (rest := [va_rf (some h.1), va_rf a0]) rfl rfl rfl q1811 q143 yk_J2_init rfl (by decide) (by decide) (Nat.le_trans (aw_r (aw_r aw_0)) (by decide)) rfl (mJ2_init C.st ex4) dX5_init_9) ?_
  obtain ⟨h6, eh6, hf⟩ := oB hf
  refine v_putC (pc := 12) C X.2.2.2.2.2.1 lk_X5_12 rfl q1818 tyX5 tyX5_ok nmX5 (tyX5_ok 2 (by decide)) rfl ft_o eh6 dX5_init_12 ?_
  refine v_aload_n (pc := 15) (j := 0) C dX5_init_15 rfl rfl ?_
  obtain ⟨h7, eh7, hf⟩ := oB hf
  refine v_new (pc := 16) (t := 15) (fs := dfJ2) (T := TJ2) (N := 3) C rfl in_J2 tyJ2 tyJ2_ok q1810 q141 q77 dfJ2_ok rfl eh7 dX5_init_16 ?_
  refine v_dup (pc := 19) C dX5_init_19 (va_rfc _) ?_
  obtain ⟨h10, ex9, hf⟩ := oB hf
  refine v_callU (pc := 20) (d_I (pc := 20) C (As := []) (rest := [va_rf (some h6.1), va_rf a0]) rfl rfl rfl q1811 q143 yk_J2_init rfl (by decide) (by decide) (Nat.le_trans (aw_r (aw_r aw_0)) (by decide)) rfl (mJ2_init C.st ex9) dX5_init_20) ?_
  obtain ⟨h11, eh11, hf⟩ := oB hf
  refine v_putC (pc := 23) C X.2.2.2.2.2.1 lk_X5_18 rfl q1820 tyX5 tyX5_ok nmX5 (tyX5_ok 3 (by decide)) rfl ft_o eh11 dX5_init_23 ?_
  refine v_aload_n (pc := 26) (j := 0) C dX5_init_26 rfl rfl ?_
  obtain ⟨h12, eh12, hf⟩ := oB hf
  refine v_new (pc := 27) (t := 15) (fs := dfJ2) (T := TJ2) (N := 3) C rfl in_J2 tyJ2 tyJ2_ok q1810 q141 q77 dfJ2_ok rfl eh12 dX5_init_27 ?_
  refine v_dup (pc := 30) C dX5_init_30 (va_rfc _) ?_
  obtain ⟨h15, ex14, hf⟩ := oB hf
  refine v_callU (pc := 31) (d_I (pc := 31) C (As := []) (rest := [va_rf (some h11.1), va_rf a0]) rfl rfl rfl q1811 q143 yk_J2_init rfl (by decide) (by decide) (Nat.le_trans (aw_r (aw_r aw_0)) (by decide)) rfl (mJ2_init C.st ex14) dX5_init_31) ?_
  obtain ⟨h16, eh16, hf⟩ := oB hf
  refine v_putC (pc := 34) C X.2.2.2.2.2.1 lk_X5_21 rfl q1822 tyX5 tyX5_ok nmX5 (tyX5_ok 4 (by decide)) rfl ft_o eh16 dX5_init_34 ?_
  refine v_aload_n (pc := 37) (j := 0) C dX5_init_37 rfl rfl ?_
  refine v_iload_n (pc := 38) (j := 1) C dX5_init_38 rfl rfl ?_
  obtain ⟨h17, eh17, hf⟩ := oB hf
  refine v_putC (pc := 39) C X.2.2.2.2.2.1 lk_X5_24 rfl q1812 tyX5 tyX5_ok nmX5 (tyX5_ok 0 (by decide)) rfl rfl eh17 dX5_init_39 ?_
  refine v_aload_n (pc := 42) (j := 0) C dX5_init_42 rfl rfl ?_
  refine v_aload_n (pc := 43) (j := 2) C dX5_init_43 rfl rfl ?_
  obtain ⟨h18, eh18, hf⟩ := oB hf
  refine v_putC (pc := 44) C X.2.2.2.2.2.1 lk_X5_28 rfl q1814 tyX5 tyX5_ok nmX5 (tyX5_ok 1 (by decide)) rfl ft_o eh18 dX5_init_44 ?_
  cases hf
  exact v_return (pc := 47) C X.2.1 X.2.2.1 X.2.2.2.1 rfl dX5_init_47
theorem mX5_init {l : Launch} {D : aD} {h : aH} {a0 : Option Nat} {a1 : Int32} {a2 : Option Nat} {g : aH} (hst : l.stackTraces = false) (hf : fX5_init D h a0 a1 a2 = some g) : aM l D yX5_init cX5_init 3 (none) 4 72 [va_rf a0, .int a1, va_rf a2] h (.inr none, g) :=
  aM.ofX [(false, va_rf a0), (false, .int a1), (false, va_rf a2)] rfl (ap_r (ap_c rfl (ap_r ap_0))) (by decide +kernel) hst (al_of (aw_r (aw_i (aw_r aw_0))) (by decide)) fun p e s m args below meth c X => V.sub (lv' := [(0, false, va_rf a0), (1, false, .int a1), (2, false, va_rf a2)]) [0, 1, 2] rfl (vX5_init X hf)
def fX1_figure (D : aD) (h : aH) (a0 : Option Nat) (a1 : Int32) : Option ((Nat ⊕ Option Nat) × aH) :=
  (gR h 0 3 a0).bind fun x1 =>
  (gR h 0 3 a0).bind fun x2 =>
  (aIs h 15 x2).bind fun _ =>
  (fJ2_size D h x2).bind fun x4 =>
  bndT (fX1_there D h a1 x4) fun x7 h8 =>
  (aIs h8 15 x1).bind fun _ =>
  (fJ2_get D h8 x1 x7).bind fun x10 =>
  (aCast h8 [4] x10).bind fun _ =>
  some (.inr x10, h8)
theorem vX1_figure {h : aH} {a0 : Option Nat} {a1 : Int32} {q : Nat ⊕ Option Nat} {g : aH} (X : aX p l R s m meth c D n0 s0 yX1_figure cX1_figure 7 103 2 (some (.object "FigureSurvey$Figure")) h0) (hf : fX1_figure D h a0 a1 = some (q, g)) : V p l e R s m args below meth c D n0 s0 (aEnd D below args s h0 (wA q, g)) h 0 [(0, false, va_rf a0), (1, false, .int a1)] [] := by
  have C := X.1
  unfold fX1_figure at hf
  refine v_aload_n (pc := 0) (j := 0) C dX1_figure_0 rfl rfl ?_
  obtain ⟨x1, ex1, hf⟩ := oB hf
  refine v_getF (pc := 1) C lk_X1_56 (gR_eq ex1) dX1_figure_1 ?_
  refine v_iload_n (pc := 4) (j := 1) C dX1_figure_4 rfl rfl ?_
  refine v_aload_n (pc := 5) (j := 0) C dX1_figure_5 rfl rfl ?_
  obtain ⟨x2, ex2, hf⟩ := oB hf
  refine v_getF (pc := 6) C lk_X1_56 (gR_eq ex2) dX1_figure_6 ?_
  obtain ⟨b3, eb3, hf⟩ := oB hf
  obtain ⟨rb3, _, kb3⟩ := aIs_eq eb3
  obtain ⟨x4, ex4, hf⟩ := oB hf
  refine v_call (pc := 9) (d_V (pc := 9) C (As := []) (rest := [.int a1, va_rf x1]) rb3 kb3 nt_15 q375 yi_J2_size_java_util_ArrayList yk_J2_size rfl (by decide) (by decide) (Nat.le_trans (aw_i (aw_r aw_0)) (by decide)) rfl (mJ2_size C.st ex4) dX1_figure_9) ?_
  rcases bndT_eq hf with ⟨_, _, ex7, qx7⟩ | ⟨x7, h8, ex7, hf⟩
  · cases qx7; exact v_ofDx (pc := 12) C X.2.1 X.2.2.1 rfl X.2.2.2.2.1 (d_S (pc := 12) C (As := [.int a1, .int x4]) (rest := [va_rf x1]) q1709 q1710 yk_X1_there rfl (by decide) (by decide) (Nat.le_trans (aw_r aw_0) (by decide)) rfl (mX1_there C.st ex7) dX1_figure_12)
  refine v_call (pc := 12) (d_S (pc := 12) C (As := [.int a1, .int x4]) (rest := [va_rf x1]) q1709 q1710 yk_X1_there rfl (by decide) (by decide) (Nat.le_trans (aw_r aw_0) (by decide)) rfl (mX1_there C.st ex7) dX1_figure_12) ?_
  obtain ⟨b9, eb9, hf⟩ := oB hf
  obtain ⟨rb9, _, kb9⟩ := aIs_eq eb9
  obtain ⟨x10, ex10, hf⟩ := oB hf
  refine v_call (pc := 15) (d_V (pc := 15) C (As := [.int x7]) (rest := []) rb9 kb9 nt_15 q379 yi_J2_get_java_util_ArrayList yk_J2_get rfl (by decide) (by decide) (Nat.le_trans aw_0 (by decide)) rfl (mJ2_get C.st ex10) dX1_figure_15) ?_
  obtain ⟨_, e12, hf⟩ := oB hf
  refine v_cast (pc := 18) C q514 ct_FigureSurvey_Figure e12 dX1_figure_18 ?_
  cases hf
  exact v_areturn (pc := 21) C X.2.1 X.2.2.1 X.2.2.2.1 (Or.inl ⟨_, rfl⟩) rfl dX1_figure_21
theorem mX1_figure {l : Launch} {D : aD} {h : aH} {a0 : Option Nat} {a1 : Int32} {q : Nat ⊕ Option Nat} {g : aH} (hst : l.stackTraces = false) (hf : fX1_figure D h a0 a1 = some (q, g)) : aM l D yX1_figure cX1_figure 2 (some (.object "FigureSurvey$Figure")) 7 103 [va_rf a0, .int a1] h (wA q, g) :=
  aM.ofX [(false, va_rf a0), (false, .int a1)] rfl (ap_r (ap_c rfl ap_0)) (by decide +kernel) hst (al_of (aw_r (aw_i aw_0)) (by decide)) fun p e s m args below meth c X => V.sub (lv' := [(0, false, va_rf a0), (1, false, .int a1)]) [0, 1] rfl (vX1_figure X hf)
def fX1_stroke (D : aD) (h : aH) (a0 : Option Nat) (a1 : Int32) : Option ((Nat ⊕ Option Nat) × aH) :=
  (gR h 0 2 a0).bind fun x1 =>
  (gR h 0 2 a0).bind fun x2 =>
  (aIs h 15 x2).bind fun _ =>
  (fJ2_size D h x2).bind fun x4 =>
  bndT (fX1_there D h a1 x4) fun x7 h8 =>
  (aIs h8 15 x1).bind fun _ =>
  (fJ2_get D h8 x1 x7).bind fun x10 =>
  (aCast h8 [3] x10).bind fun _ =>
  some (.inr x10, h8)
theorem vX1_stroke {h : aH} {a0 : Option Nat} {a1 : Int32} {q : Nat ⊕ Option Nat} {g : aH} (X : aX p l R s m meth c D n0 s0 yX1_stroke cX1_stroke 7 103 2 (some (.object "FigureSurvey$Stroke")) h0) (hf : fX1_stroke D h a0 a1 = some (q, g)) : V p l e R s m args below meth c D n0 s0 (aEnd D below args s h0 (wA q, g)) h 0 [(0, false, va_rf a0), (1, false, .int a1)] [] := by
  have C := X.1
  unfold fX1_stroke at hf
  refine v_aload_n (pc := 0) (j := 0) C dX1_stroke_0 rfl rfl ?_
  obtain ⟨x1, ex1, hf⟩ := oB hf
  refine v_getF (pc := 1) C lk_X1_53 (gR_eq ex1) dX1_stroke_1 ?_
  refine v_iload_n (pc := 4) (j := 1) C dX1_stroke_4 rfl rfl ?_
  refine v_aload_n (pc := 5) (j := 0) C dX1_stroke_5 rfl rfl ?_
  obtain ⟨x2, ex2, hf⟩ := oB hf
  refine v_getF (pc := 6) C lk_X1_53 (gR_eq ex2) dX1_stroke_6 ?_
  obtain ⟨b3, eb3, hf⟩ := oB hf
  obtain ⟨rb3, _, kb3⟩ := aIs_eq eb3
  obtain ⟨x4, ex4, hf⟩ := oB hf
  refine v_call (pc := 9) (d_V (pc := 9) C (As := []) (rest := [.int a1, va_rf x1]) rb3 kb3 nt_15 q375 yi_J2_size_java_util_ArrayList yk_J2_size rfl (by decide) (by decide) (Nat.le_trans (aw_i (aw_r aw_0)) (by decide)) rfl (mJ2_size C.st ex4) dX1_stroke_9) ?_
  rcases bndT_eq hf with ⟨_, _, ex7, qx7⟩ | ⟨x7, h8, ex7, hf⟩
  · cases qx7; exact v_ofDx (pc := 12) C X.2.1 X.2.2.1 rfl X.2.2.2.2.1 (d_S (pc := 12) C (As := [.int a1, .int x4]) (rest := [va_rf x1]) q1709 q1710 yk_X1_there rfl (by decide) (by decide) (Nat.le_trans (aw_r aw_0) (by decide)) rfl (mX1_there C.st ex7) dX1_stroke_12)
  refine v_call (pc := 12) (d_S (pc := 12) C (As := [.int a1, .int x4]) (rest := [va_rf x1]) q1709 q1710 yk_X1_there rfl (by decide) (by decide) (Nat.le_trans (aw_r aw_0) (by decide)) rfl (mX1_there C.st ex7) dX1_stroke_12) ?_
  obtain ⟨b9, eb9, hf⟩ := oB hf
  obtain ⟨rb9, _, kb9⟩ := aIs_eq eb9
  obtain ⟨x10, ex10, hf⟩ := oB hf
  refine v_call (pc := 15) (d_V (pc := 15) C (As := [.int x7]) (rest := []) rb9 kb9 nt_15 q379 yi_J2_get_java_util_ArrayList yk_J2_get rfl (by decide) (by decide) (Nat.le_trans aw_0 (by decide)) rfl (mJ2_get C.st ex10) dX1_stroke_15) ?_
  obtain ⟨_, e12, hf⟩ := oB hf
  refine v_cast (pc := 18) C q1776 ct_FigureSurvey_Stroke e12 dX1_stroke_18 ?_
  cases hf
  exact v_areturn (pc := 21) C X.2.1 X.2.2.1 X.2.2.2.1 (Or.inl ⟨_, rfl⟩) rfl dX1_stroke_21
theorem mX1_stroke {l : Launch} {D : aD} {h : aH} {a0 : Option Nat} {a1 : Int32} {q : Nat ⊕ Option Nat} {g : aH} (hst : l.stackTraces = false) (hf : fX1_stroke D h a0 a1 = some (q, g)) : aM l D yX1_stroke cX1_stroke 2 (some (.object "FigureSurvey$Stroke")) 7 103 [va_rf a0, .int a1] h (wA q, g) :=
  aM.ofX [(false, va_rf a0), (false, .int a1)] rfl (ap_r (ap_c rfl ap_0)) (by decide +kernel) hst (al_of (aw_r (aw_i aw_0)) (by decide)) fun p e s m args below meth c X => V.sub (lv' := [(0, false, va_rf a0), (1, false, .int a1)]) [0, 1] rfl (vX1_stroke X hf)
def fJ2_contains (D : aD) (h : aH) (a0 : Option Nat) (a1 : Option Nat) : Option (Int32) :=
  (aIs h 15 a0).bind fun _ =>
  (fJ2_indexOf D h a0 a1).bind fun x2 =>
  if x2 < 0 then
  (some (0 : Int32))
  else
  (some (1 : Int32))
theorem vJ2_contains {h : aH} {a0 : Option Nat} {a1 : Option Nat} {q : Int32} (X : aX p l R s m meth c D n0 s0 yJ2_contains cJ2_contains 3 67 2 (some .boolean) h0) (hf : fJ2_contains D h a0 a1 = some q) : V p l e R s m args below meth c D n0 s0 (aEnd D below args s h0 (.inr (some (.int q)), h)) h 0 [(0, false, va_rf a0), (1, false, va_rf a1)] [] := by
  have C := X.1
  unfold fJ2_contains at hf
  refine v_aload_n (pc := 0) (j := 0) C dJ2_contains_0 rfl rfl ?_
  refine v_aload_n (pc := 1) (j := 1) C dJ2_contains_1 rfl rfl ?_
  obtain ⟨b1, eb1, hf⟩ := oB hf
  obtain ⟨rb1, _, kb1⟩ := aIs_eq eb1
  obtain ⟨x2, ex2, hf⟩ := oB hf
  refine v_call (pc := 2) (d_V (pc := 2) C (As := [va_rf a1]) (rest := []) rb1 kb1 nt_15 q1861 yi_J2_indexOf_java_util_ArrayList yk_J2_indexOf rfl (by decide) (by decide) (Nat.le_trans aw_0 (by decide)) rfl (mJ2_indexOf C.st ex2) dJ2_contains_2) ?_
  refine v_if_lt (pc := 5) (tgt := 12) C dJ2_contains_5 rfl (fun hc => ?_) (fun hc => ?_)
  · rw [if_pos hc] at hf
    refine v_iconst (pc := 12) (v := (0 : Int32)) C dJ2_contains_12 rfl ?_
    cases hf
    exact v_zreturn (pc := 13) C X.2.1 X.2.2.1 X.2.2.2.1 (by decide) rfl dJ2_contains_13
  · rw [if_neg hc] at hf
    refine v_iconst (pc := 8) (v := (1 : Int32)) C dJ2_contains_8 rfl ?_
    refine v_goto (pc := 9) (tgt := 13) C dJ2_contains_9 rfl ?_
    cases hf
    exact v_zreturn (pc := 13) C X.2.1 X.2.2.1 X.2.2.2.1 (by decide) rfl dJ2_contains_13
theorem mJ2_contains {l : Launch} {D : aD} {h : aH} {a0 : Option Nat} {a1 : Option Nat} {q : Int32} (hst : l.stackTraces = false) (hf : fJ2_contains D h a0 a1 = some q) : aM l D yJ2_contains cJ2_contains 2 (some .boolean) 3 67 [va_rf a0, va_rf a1] h (.inr (some (.int q)), h) :=
  aM.ofX [(false, va_rf a0), (false, va_rf a1)] rfl (ap_r (ap_r ap_0)) (by decide +kernel) hst (al_of (aw_r (aw_r aw_0)) (by decide)) fun p e s m args below meth c X => V.sub (lv' := [(0, false, va_rf a0), (1, false, va_rf a1)]) [0, 1] rfl (vJ2_contains X hf)
def fJ2_fastRemove_p34 (D : aD) (h : aH) (a0 : Option Nat) (a1 : Option Nat) (a3 : Int32) : Option (aH) :=
  (pF D h 15 2 a0 (.int a3)).bind fun h1 =>
  (sR D h1 a1 a3 none).bind fun h2 =>
  some h2
theorem vJ2_fastRemove_p34 {h : aH} {a0 : Option Nat} {a1 : Option Nat} {a3 : Int32} {g : aH} (X : aX p l R s m meth c D n0 s0 yJ2_fastRemove cJ2_fastRemove 1 18 4 (none) h0) (hf : fJ2_fastRemove_p34 D h a0 a1 a3 = some g) : V p l e R s m args below meth c D n0 s0 (aEnd D below args s h0 (.inr none, g)) h 34 [(0, false, va_rf a0), (1, false, va_rf a1), (3, false, .int a3)] [] := by
  have C := X.1
  unfold fJ2_fastRemove_p34 at hf
  refine v_aload_n (pc := 34) (j := 1) C dJ2_fastRemove_34 rfl rfl ?_
  refine v_aload_n (pc := 35) (j := 0) C dJ2_fastRemove_35 rfl rfl ?_
  refine v_iload_n (pc := 36) (j := 2) C dJ2_fastRemove_36 rfl rfl ?_
  refine v_dup_x1 (pc := 37) C dJ2_fastRemove_37 rfl (va_rfc _) ?_
  obtain ⟨h1, eh1, hf⟩ := oB hf
  refine v_putF (pc := 38) C lk_J2_48 tyJ2 tyJ2_ok nmJ2 (tyJ2_ok 2 (by decide)) rfl rfl eh1 dJ2_fastRemove_38 ?_
  refine v_null (pc := 41) C dJ2_fastRemove_41 ?_
  obtain ⟨h2, eh2, hf⟩ := oB hf
  refine v_aastore (pc := 42) C eh2 dJ2_fastRemove_42 ?_
  cases hf
  exact v_return (pc := 43) C X.2.1 X.2.2.1 X.2.2.2.1 rfl dJ2_fastRemove_43
def fJ2_fastRemove (D : aD) (h : aH) (a0 : Option Nat) (a1 : Option Nat) (a2 : Int32) : Option (aH) :=
  (gI h 15 0 a0).bind fun x1 =>
  (pF D h 15 0 a0 (.int (x1 + (1 : Int32)))).bind fun h2 =>
  (gI h2 15 2 a0).bind fun x3 =>
  (some ((x3 - (1 : Int32)))).bind fun x4 =>
  if (x3 - (1 : Int32)) ≤ a2 then
  (fJ2_fastRemove_p34 D h2 a0 a1 x4)
  else
  ((aCpy D h2 a1 (a2 + (1 : Int32)) a1 a2 (x4 - a2)).bind fun h5 =>
  fJ2_fastRemove_p34 D h5 a0 a1 x4)
theorem vJ2_fastRemove {h : aH} {a0 : Option Nat} {a1 : Option Nat} {a2 : Int32} {g : aH} (X : aX p l R s m meth c D n0 s0 yJ2_fastRemove cJ2_fastRemove 1 18 4 (none) h0) (hf : fJ2_fastRemove D h a0 a1 a2 = some g) : V p l e R s m args below meth c D n0 s0 (aEnd D below args s h0 (.inr none, g)) h 0 [(0, false, va_rf a0), (1, false, va_rf a1), (2, false, .int a2)] [] := by
  have C := X.1
  unfold fJ2_fastRemove at hf
  refine v_aload_n (pc := 0) (j := 0) C dJ2_fastRemove_0 rfl rfl ?_
  refine v_dup (pc := 1) C dJ2_fastRemove_1 (va_rfc _) ?_
  obtain ⟨x1, ex1, hf⟩ := oB hf
  refine v_getF (pc := 2) C lk_J2_63 (gI_eq ex1) dJ2_fastRemove_2 ?_
  refine v_iconst (pc := 5) (v := (1 : Int32)) C dJ2_fastRemove_5 rfl ?_
  refine v_iadd (pc := 6) C dJ2_fastRemove_6 ?_
  obtain ⟨h2, eh2, hf⟩ := oB hf
  refine v_putF (pc := 7) C lk_J2_63 tyJ2 tyJ2_ok nmJ2 (tyJ2_ok 0 (by decide)) rfl rfl eh2 dJ2_fastRemove_7 ?_
  refine v_aload_n (pc := 10) (j := 0) C dJ2_fastRemove_10 rfl rfl ?_
  obtain ⟨x3, ex3, hf⟩ := oB hf
  refine v_getF (pc := 11) C lk_J2_48 (gI_eq ex3) dJ2_fastRemove_11 ?_
  refine v_iconst (pc := 14) (v := (1 : Int32)) C dJ2_fastRemove_14 rfl ?_
  refine v_isub (pc := 15) C dJ2_fastRemove_15 ?_
  refine v_dup (pc := 16) C dJ2_fastRemove_16 rfl ?_
  obtain ⟨x4, ex4, hf⟩ := oB hf
  refine vst (Option.some.inj ex4) (fun z => .int z :: [.int (x3 - (1 : Int32))]) ?_
  refine v_istore_n (pc := 17) (lv' := [(3, false, .int x4), (0, false, va_rf a0), (1, false, va_rf a1), (2, false, .int a2)]) C dJ2_fastRemove_17 rfl (by decide) rfl ?_
  refine v_iload_n (pc := 18) (j := 3) C dJ2_fastRemove_18 rfl rfl ?_
  refine v_icmp_le (pc := 19) (tgt := 34) C dJ2_fastRemove_19 rfl (fun hc => ?_) (fun hc => ?_)
  · rw [if_pos hc] at hf
    exact V.sub [1, 2, 0] rfl (vJ2_fastRemove_p34 X hf)
  · rw [if_neg hc] at hf
    refine v_aload_n (pc := 22) (j := 2) C dJ2_fastRemove_22 rfl rfl ?_
    refine v_iload_n (pc := 23) (j := 3) C dJ2_fastRemove_23 rfl rfl ?_
    refine v_iconst (pc := 24) (v := (1 : Int32)) C dJ2_fastRemove_24 rfl ?_
    refine v_iadd (pc := 25) C dJ2_fastRemove_25 ?_
    refine v_aload_n (pc := 26) (j := 2) C dJ2_fastRemove_26 rfl rfl ?_
    refine v_iload_n (pc := 27) (j := 3) C dJ2_fastRemove_27 rfl rfl ?_
    refine v_iload_n (pc := 28) (j := 0) C dJ2_fastRemove_28 rfl rfl ?_
    refine v_iload_n (pc := 29) (j := 3) C dJ2_fastRemove_29 rfl rfl ?_
    refine v_isub (pc := 30) C dJ2_fastRemove_30 ?_
    obtain ⟨h5, eh5, hf⟩ := oB hf
    refine v_copy (pc := 31) C q1870 q481 q480 q90 eh5 (by decide) (Nat.le_trans (Nat.add_le_add_right aw_0 _) (by decide)) dJ2_fastRemove_31 ?_
    exact V.sub [1, 2, 0] rfl (vJ2_fastRemove_p34 X hf)
theorem mJ2_fastRemove {l : Launch} {D : aD} {h : aH} {a0 : Option Nat} {a1 : Option Nat} {a2 : Int32} {g : aH} (hst : l.stackTraces = false) (hf : fJ2_fastRemove D h a0 a1 a2 = some g) : aM l D yJ2_fastRemove cJ2_fastRemove 4 (none) 1 18 [va_rf a0, va_rf a1, .int a2] h (.inr none, g) :=
  aM.ofX [(false, va_rf a0), (false, va_rf a1), (false, .int a2)] rfl (ap_r (ap_r (ap_c rfl ap_0))) (by decide +kernel) hst (al_of (aw_r (aw_r (aw_i aw_0))) (by decide)) fun p e s m args below meth c X => V.sub (lv' := [(0, false, va_rf a0), (1, false, va_rf a1), (2, false, .int a2)]) [0, 1, 2] rfl (vJ2_fastRemove X hf)
def fJ2_remove_p67 (D : aD) (h : aH) (a0 : Option Nat) (a2 : Option Nat) (a4 : Int32) : Option (Int32 × aH) :=
  (aIs h 15 a0).bind fun _ =>
  (fJ2_fastRemove D h a0 a2 a4).bind fun h3 =>
  some ((1 : Int32), h3)
theorem vJ2_remove_p67 {h : aH} {a0 : Option Nat} {a2 : Option Nat} {a4 : Int32} {q : Int32} {g : aH} (X : aX p l R s m meth c D n0 s0 yJ2_remove cJ2_remove 2 41 5 (some .boolean) h0) (hf : fJ2_remove_p67 D h a0 a2 a4 = some (q, g)) : V p l e R s m args below meth c D n0 s0 (aEnd D below args s h0 (.inr (some (.int q)), g)) h 67 [(0, false, va_rf a0), (2, false, va_rf a2), (4, false, .int a4)] [] := by
  have C := X.1
  unfold fJ2_remove_p67 at hf
  refine v_aload_n (pc := 67) (j := 0) C dJ2_remove_67 rfl rfl ?_
  refine v_aload_n (pc := 68) (j := 1) C dJ2_remove_68 rfl rfl ?_
  refine v_iload (pc := 69) (j := 2) C dJ2_remove_69 rfl ?_
  obtain ⟨b1, eb1, hf⟩ := oB hf
  obtain ⟨rb1, _, kb1⟩ := aIs_eq eb1
  obtain ⟨h3, ex2, hf⟩ := oB hf
  refine v_callU (pc := 71) (d_V (pc := 71) C (As := [va_rf a2, .int a4]) (rest := []) rb1 kb1 nt_15 q1866 yi_J2_fastRemove_java_util_ArrayList yk_J2_fastRemove rfl (by decide) (by decide) (Nat.le_trans aw_0 (by decide)) rfl (mJ2_fastRemove C.st ex2) dJ2_remove_71) ?_
  refine v_iconst (pc := 74) (v := (1 : Int32)) C dJ2_remove_74 rfl ?_
  cases hf
  exact v_zreturn (pc := 75) C X.2.1 X.2.2.1 X.2.2.2.1 (by decide) rfl dJ2_remove_75
def fJ2_remove_p17 (D : aD) : Nat → aH → (Option Nat) → (Option Nat) → Int32 → Int32 → Option (Int32 × aH)
  | 0, _, _, _, _, _ => none
  | n + 1, h, a0, a2, a3, a4 =>
  if a3 ≤ a4 then
  (some ((0 : Int32), h))
  else
  ((eR h a2 a4).bind fun x1 =>
  if x1 = none then
  (fJ2_remove_p67 D h a0 a2 a4)
  else
  (fJ2_remove_p17 D n h a0 a2 a3 (a4 + 1)))
theorem vJ2_remove_p17 (X : aX p l R s m meth c D n0 s0 yJ2_remove cJ2_remove 2 41 5 (some .boolean) h0) : ∀ (n : Nat) (h : aH) (a0 : Option Nat) (a2 : Option Nat) (a3 : Int32) (a4 : Int32) (q : Int32) (g : aH), fJ2_remove_p17 D n h a0 a2 a3 a4 = some (q, g) → V p l e R s m args below meth c D n0 s0 (aEnd D below args s h0 (.inr (some (.int q)), g)) h 17 [(0, false, va_rf a0), (2, false, va_rf a2), (3, false, .int a3), (4, false, .int a4)] [] := by
  have C := X.1
  intro n
  induction n with
  | zero =>
    intro _ _ _ _ _ _ _ hf
    rw [fJ2_remove_p17] at hf
    cases hf
  | succ n ih =>
    intro h a0 a2 a3 a4 q g hf
    rw [fJ2_remove_p17] at hf
    refine v_iload (pc := 17) (j := 3) C dJ2_remove_17 rfl ?_
    refine v_iload_n (pc := 19) (j := 2) C dJ2_remove_19 rfl rfl ?_
    refine v_icmp_ge (pc := 20) (tgt := 65) C dJ2_remove_20 rfl (fun hc => ?_) (fun hc => ?_)
    · rw [if_pos hc] at hf
      refine v_iconst (pc := 65) (v := (0 : Int32)) C dJ2_remove_65 rfl ?_
      cases hf
      exact v_zreturn (pc := 66) C X.2.1 X.2.2.1 X.2.2.2.1 (by decide) rfl dJ2_remove_66
    · rw [if_neg hc] at hf
      refine v_aload_n (pc := 23) (j := 1) C dJ2_remove_23 rfl rfl ?_
      refine v_iload (pc := 24) (j := 3) C dJ2_remove_24 rfl ?_
      obtain ⟨x1, ex1, hf⟩ := oB hf
      refine v_aaload (pc := 26) C ex1 dJ2_remove_26 ?_
      refine v_ifnonnull (pc := 27) (tgt := 33) C dJ2_remove_27 rfl (fun hc => ?_) (fun hc => ?_)
      · rw [if_neg hc] at hf
        refine v_iinc (pc := 33) (j := 3) (v := (a4 + 1)) (lv' := [(4, false, .int (a4 + 1)), (0, false, va_rf a0), (2, false, va_rf a2), (3, false, .int a3)]) C dJ2_remove_33 rfl rfl (by decide) rfl ?_
        refine v_goto (pc := 36) (tgt := 17) C dJ2_remove_36 rfl ?_
        exact V.sub [1, 2, 3, 0] rfl (ih _ _ _ _ _ _ _ hf)
      · rw [if_pos hc] at hf
        refine v_goto (pc := 30) (tgt := 67) C dJ2_remove_30 rfl ?_
        exact V.sub [0, 1, 3] rfl (vJ2_remove_p67 X hf)
def fJ2_remove_p39 (D : aD) : Nat → aH → (Option Nat) → (Option Nat) → (Option Nat) → Int32 → Int32 → Option (Int32 × aH)
  | 0, _, _, _, _, _, _ => none
  | n + 1, h, a0, a1, a2, a3, a4 =>
  if a3 ≤ a4 then
  (some ((0 : Int32), h))
  else
  ((eR h a2 a4).bind fun x1 =>
  (fd_Object_equals_3_4_7 D h a1 x1).bind fun x3 =>
  if x3 = 0 then
  (fJ2_remove_p39 D n h a0 a1 a2 a3 (a4 + 1))
  else
  (fJ2_remove_p67 D h a0 a2 a4))
theorem vJ2_remove_p39 (X : aX p l R s m meth c D n0 s0 yJ2_remove cJ2_remove 2 41 5 (some .boolean) h0) : ∀ (n : Nat) (h : aH) (a0 : Option Nat) (a1 : Option Nat) (a2 : Option Nat) (a3 : Int32) (a4 : Int32) (q : Int32) (g : aH), fJ2_remove_p39 D n h a0 a1 a2 a3 a4 = some (q, g) → V p l e R s m args below meth c D n0 s0 (aEnd D below args s h0 (.inr (some (.int q)), g)) h 39 [(0, false, va_rf a0), (1, false, va_rf a1), (2, false, va_rf a2), (3, false, .int a3), (4, false, .int a4)] [] := by
  have C := X.1
  intro n
  induction n with
  | zero =>
    intro _ _ _ _ _ _ _ _ hf
    rw [fJ2_remove_p39] at hf
    cases hf
  | succ n ih =>
    intro h a0 a1 a2 a3 a4 q g hf
    rw [fJ2_remove_p39] at hf
    refine v_iload (pc := 39) (j := 4) C dJ2_remove_39 rfl ?_
    refine v_iload_n (pc := 41) (j := 3) C dJ2_remove_41 rfl rfl ?_
    refine v_icmp_ge (pc := 42) (tgt := 65) C dJ2_remove_42 rfl (fun hc => ?_) (fun hc => ?_)
    · rw [if_pos hc] at hf
      refine v_iconst (pc := 65) (v := (0 : Int32)) C dJ2_remove_65 rfl ?_
      cases hf
      exact v_zreturn (pc := 66) C X.2.1 X.2.2.1 X.2.2.2.1 (by decide) rfl dJ2_remove_66
    · rw [if_neg hc] at hf
      refine v_aload_n (pc := 45) (j := 1) C dJ2_remove_45 rfl rfl ?_
      refine v_aload_n (pc := 46) (j := 2) C dJ2_remove_46 rfl rfl ?_
      refine v_iload (pc := 47) (j := 4) C dJ2_remove_47 rfl ?_
      obtain ⟨x1, ex1, hf⟩ := oB hf
      refine v_aaload (pc := 49) C ex1 dJ2_remove_49 ?_
      obtain ⟨x3, ex3, hf⟩ := oB hf
      refine v_call (pc := 50) (dd_Object_equals_3_4_7 (pc := 50) C q1201 (by decide) (by decide) (Nat.le_trans aw_0 (by decide)) rfl ex3 dJ2_remove_50) ?_
      refine v_if_eq (pc := 53) (tgt := 59) C dJ2_remove_53 rfl (fun hc => ?_) (fun hc => ?_)
      · rw [if_pos hc] at hf
        refine v_iinc (pc := 59) (j := 4) (v := (a4 + 1)) (lv' := [(4, false, .int (a4 + 1)), (0, false, va_rf a0), (1, false, va_rf a1), (2, false, va_rf a2), (3, false, .int a3)]) C dJ2_remove_59 rfl rfl (by decide) rfl ?_
        refine v_goto (pc := 62) (tgt := 39) C dJ2_remove_62 rfl ?_
        exact V.sub [1, 2, 3, 4, 0] rfl (ih _ _ _ _ _ _ _ _ hf)
      · rw [if_neg hc] at hf
        refine v_goto (pc := 56) (tgt := 67) C dJ2_remove_56 rfl ?_
        exact V.sub [0, 2, 4] rfl (vJ2_remove_p67 X hf)
def fJ2_remove (D : aD) (h : aH) (a0 : Option Nat) (a1 : Option Nat) : Option (Int32 × aH) :=
  (gR h 15 1 a0).bind fun x1 =>
  (gI h 15 2 a0).bind fun x2 =>
  if a1 = none then
  (fJ2_remove_p17 D FU h a0 x1 x2 (0 : Int32))
  else
  (fJ2_remove_p39 D FU h a0 a1 x1 x2 (0 : Int32))
theorem vJ2_remove {h : aH} {a0 : Option Nat} {a1 : Option Nat} {q : Int32} {g : aH} (X : aX p l R s m meth c D n0 s0 yJ2_remove cJ2_remove 2 41 5 (some .boolean) h0) (hf : fJ2_remove D h a0 a1 = some (q, g)) : V p l e R s m args below meth c D n0 s0 (aEnd D below args s h0 (.inr (some (.int q)), g)) h 0 [(0, false, va_rf a0), (1, false, va_rf a1)] [] := by
  have C := X.1
  unfold fJ2_remove at hf
  refine v_aload_n (pc := 0) (j := 0) C dJ2_remove_0 rfl rfl ?_
  obtain ⟨x1, ex1, hf⟩ := oB hf
  refine v_getF (pc := 1) C lk_J2_9 (gR_eq ex1) dJ2_remove_1 ?_
  refine v_astore_n (pc := 4) (lv' := [(2, false, va_rf x1), (0, false, va_rf a0), (1, false, va_rf a1)]) C dJ2_remove_4 rfl (by decide) rfl ?_
  refine v_aload_n (pc := 5) (j := 1) C dJ2_remove_5 rfl rfl ?_
  obtain ⟨x2, ex2, hf⟩ := oB hf
  refine v_getF (pc := 6) C lk_J2_48 (gI_eq ex2) dJ2_remove_6 ?_
  refine v_istore_n (pc := 9) (lv' := [(3, false, .int x2), (2, false, va_rf x1), (0, false, va_rf a0), (1, false, va_rf a1)]) C dJ2_remove_9 rfl (by decide) rfl ?_
  refine v_iconst (pc := 10) (v := (0 : Int32)) C dJ2_remove_10 rfl ?_
  refine v_istore (pc := 11) (lv' := [(4, false, .int (0 : Int32)), (3, false, .int x2), (2, false, va_rf x1), (0, false, va_rf a0), (1, false, va_rf a1)]) C dJ2_remove_11 (by decide) rfl ?_
  refine v_aload_n (pc := 13) (j := 4) C dJ2_remove_13 rfl rfl ?_
  refine v_ifnonnull (pc := 14) (tgt := 39) C dJ2_remove_14 rfl (fun hc => ?_) (fun hc => ?_)
  · rw [if_neg hc] at hf
    exact V.sub [3, 4, 2, 1, 0] rfl (vJ2_remove_p39 X _ _ _ _ _ _ _ _ _ hf)
  · rw [if_pos hc] at hf
    exact V.sub [3, 2, 1, 0] rfl (vJ2_remove_p17 X _ _ _ _ _ _ _ _ hf)
theorem mJ2_remove {l : Launch} {D : aD} {h : aH} {a0 : Option Nat} {a1 : Option Nat} {q : Int32} {g : aH} (hst : l.stackTraces = false) (hf : fJ2_remove D h a0 a1 = some (q, g)) : aM l D yJ2_remove cJ2_remove 5 (some .boolean) 2 41 [va_rf a0, va_rf a1] h (.inr (some (.int q)), g) :=
  aM.ofX [(false, va_rf a0), (false, va_rf a1)] rfl (ap_r (ap_r ap_0)) (by decide +kernel) hst (al_of (aw_r (aw_r aw_0)) (by decide)) fun p e s m args below meth c X => V.sub (lv' := [(0, false, va_rf a0), (1, false, va_rf a1)]) [0, 1] rfl (vJ2_remove X hf)
def fX1_setStroke_p84 (D : aD) (h : aH) (a4 : Option Nat) (t0 : Int32) : Option ((Nat ⊕ Int32) × aH) :=
  (gR h 4 2 a4).bind fun x1 =>
  (aIs h 15 x1).bind fun _ =>
  (fJ2_size D h x1).bind fun x3 =>
  some (.inr x3, h)
theorem vX1_setStroke_p84 {h : aH} {a4 : Option Nat} {t0 : Int32} {q : Nat ⊕ Int32} {g : aH} (X : aX p l R s m meth c D n0 s0 yX1_setStroke cX1_setStroke 8 152 7 (some .int) h0) (hf : fX1_setStroke_p84 D h a4 t0 = some (q, g)) : V p l e R s m args below meth c D n0 s0 (aEnd D below args s h0 (wI q, g)) h 84 [(4, false, va_rf a4)] [.int t0] := by
  have C := X.1
  unfold fX1_setStroke_p84 at hf
  refine v_istore (pc := 84) (lv' := [(6, false, .int t0), (4, false, va_rf a4)]) C dX1_setStroke_84 (by decide) rfl ?_
  refine v_aload (pc := 86) (j := 1) C dX1_setStroke_86 rfl ?_
  obtain ⟨x1, ex1, hf⟩ := oB hf
  refine v_getF (pc := 88) C lk_X1_219 (gR_eq ex1) dX1_setStroke_88 ?_
  obtain ⟨b2, eb2, hf⟩ := oB hf
  obtain ⟨rb2, _, kb2⟩ := aIs_eq eb2
  obtain ⟨x3, ex3, hf⟩ := oB hf
  refine v_call (pc := 91) (d_V (pc := 91) C (As := []) (rest := []) rb2 kb2 nt_15 q375 yi_J2_size_java_util_ArrayList yk_J2_size rfl (by decide) (by decide) (Nat.le_trans aw_0 (by decide)) rfl (mJ2_size C.st ex3) dX1_setStroke_91) ?_
  cases hf
  exact v_ireturn (pc := 94) C X.2.1 X.2.2.1 X.2.2.2.1 rfl dX1_setStroke_94
def fX1_setStroke_p54 (D : aD) (h : aH) (a3 : Int32) (a4 : Option Nat) (a5 : Option Nat) (t0 : Int32) : Option ((Nat ⊕ Int32) × aH) :=
  bndT (fX1_must D h t0) fun _ h3 =>
  if a3 = 0 then
  ((gR h3 4 2 a4).bind fun x4 =>
  (aIs h3 15 x4).bind fun _ =>
  bnd2 (fJ2_remove D h3 x4 a5) fun x6 h7 =>
  fX1_setStroke_p84 D h7 a4 x6)
  else
  ((gR h3 4 2 a4).bind fun x8 =>
  (aIs h3 15 x8).bind fun _ =>
  bnd2 (fJ2_add D h3 x8 a5) fun x10 h11 =>
  fX1_setStroke_p84 D h11 a4 x10)
theorem vX1_setStroke_p54 {h : aH} {a3 : Int32} {a4 : Option Nat} {a5 : Option Nat} {t0 : Int32} {q : Nat ⊕ Int32} {g : aH} (X : aX p l R s m meth c D n0 s0 yX1_setStroke cX1_setStroke 8 152 7 (some .int) h0) (hf : fX1_setStroke_p54 D h a3 a4 a5 t0 = some (q, g)) : V p l e R s m args below meth c D n0 s0 (aEnd D below args s h0 (wI q, g)) h 54 [(3, false, .int a3), (4, false, va_rf a4), (5, false, va_rf a5)] [.int t0] := by
  have C := X.1
  unfold fX1_setStroke_p54 at hf
  rcases bndT_eq hf with ⟨_, _, ex2, qx2⟩ | ⟨x2, h3, ex2, hf⟩
  · cases qx2; exact v_ofDx (pc := 54) C X.2.1 X.2.2.1 rfl X.2.2.2.2.1 (d_S (pc := 54) C (As := [.int t0]) (rest := []) q1595 q1596 yk_X1_must rfl (by decide) (by decide) (Nat.le_trans aw_0 (by decide)) rfl (mX1_must C.st ex2) dX1_setStroke_54)
  refine v_callU (pc := 54) (d_S (pc := 54) C (As := [.int t0]) (rest := []) q1595 q1596 yk_X1_must rfl (by decide) (by decide) (Nat.le_trans aw_0 (by decide)) rfl (mX1_must C.st ex2) dX1_setStroke_54) ?_
  refine v_iload_n (pc := 57) (j := 0) C dX1_setStroke_57 rfl rfl ?_
  refine v_if_eq (pc := 58) (tgt := 74) C dX1_setStroke_58 rfl (fun hc => ?_) (fun hc => ?_)
  · rw [if_pos hc] at hf
    refine v_aload (pc := 74) (j := 1) C dX1_setStroke_74 rfl ?_
    obtain ⟨x4, ex4, hf⟩ := oB hf
    refine v_getF (pc := 76) C lk_X1_219 (gR_eq ex4) dX1_setStroke_76 ?_
    refine v_aload (pc := 79) (j := 2) C dX1_setStroke_79 rfl ?_
    obtain ⟨b5, eb5, hf⟩ := oB hf
    obtain ⟨rb5, _, kb5⟩ := aIs_eq eb5
    obtain ⟨x6, h7, ex6, hf⟩ := bnd2_eq hf
    refine v_call (pc := 81) (d_V (pc := 81) C (As := [va_rf a5]) (rest := []) rb5 kb5 nt_15 q1862 yi_J2_remove_java_util_ArrayList yk_J2_remove rfl (by decide) (by decide) (Nat.le_trans aw_0 (by decide)) rfl (mJ2_remove C.st ex6) dX1_setStroke_81) ?_
    exact V.sub [1] rfl (vX1_setStroke_p84 X hf)
  · rw [if_neg hc] at hf
    refine v_aload (pc := 61) (j := 1) C dX1_setStroke_61 rfl ?_
    obtain ⟨x8, ex8, hf⟩ := oB hf
    refine v_getF (pc := 63) C lk_X1_219 (gR_eq ex8) dX1_setStroke_63 ?_
    refine v_aload (pc := 66) (j := 2) C dX1_setStroke_66 rfl ?_
    obtain ⟨b9, eb9, hf⟩ := oB hf
    obtain ⟨rb9, _, kb9⟩ := aIs_eq eb9
    obtain ⟨x10, h11, ex10, hf⟩ := bnd2_eq hf
    refine v_call (pc := 68) (d_V (pc := 68) C (As := [va_rf a5]) (rest := []) rb9 kb9 nt_15 q1673 yi_J2_add_java_util_ArrayList yk_J2_add rfl (by decide) (by decide) (Nat.le_trans aw_0 (by decide)) rfl (mJ2_add C.st ex10) dX1_setStroke_68) ?_
    refine v_goto (pc := 71) (tgt := 84) C dX1_setStroke_71 rfl ?_
    exact V.sub [1] rfl (vX1_setStroke_p84 X hf)
def fX1_setStroke_p32 (D : aD) (h : aH) (a3 : Int32) (a4 : Option Nat) (a5 : Option Nat) (t0 : Int32) : Option ((Nat ⊕ Int32) × aH) :=
  bndT (fX1_right D h t0) fun _ h3 =>
  (gR h3 4 2 a4).bind fun x4 =>
  (aIs h3 15 x4).bind fun _ =>
  (fJ2_contains D h3 x4 a5).bind fun x6 =>
  fX1_setStroke_p54 D h3 a3 a4 a5 (if x6 = a3 then (0 : Int32) else (1 : Int32))
theorem vX1_setStroke_p32 {h : aH} {a3 : Int32} {a4 : Option Nat} {a5 : Option Nat} {t0 : Int32} {q : Nat ⊕ Int32} {g : aH} (X : aX p l R s m meth c D n0 s0 yX1_setStroke cX1_setStroke 8 152 7 (some .int) h0) (hf : fX1_setStroke_p32 D h a3 a4 a5 t0 = some (q, g)) : V p l e R s m args below meth c D n0 s0 (aEnd D below args s h0 (wI q, g)) h 32 [(3, false, .int a3), (4, false, va_rf a4), (5, false, va_rf a5)] [.int t0] := by
  have C := X.1
  unfold fX1_setStroke_p32 at hf
  rcases bndT_eq hf with ⟨_, _, ex2, qx2⟩ | ⟨x2, h3, ex2, hf⟩
  · cases qx2; exact v_ofDx (pc := 32) C X.2.1 X.2.2.1 rfl X.2.2.2.2.1 (d_S (pc := 32) C (As := [.int t0]) (rest := []) q1772 q1773 yk_X1_right rfl (by decide) (by decide) (Nat.le_trans aw_0 (by decide)) rfl (mX1_right C.st ex2) dX1_setStroke_32)
  refine v_callU (pc := 32) (d_S (pc := 32) C (As := [.int t0]) (rest := []) q1772 q1773 yk_X1_right rfl (by decide) (by decide) (Nat.le_trans aw_0 (by decide)) rfl (mX1_right C.st ex2) dX1_setStroke_32) ?_
  refine v_aload (pc := 35) (j := 1) C dX1_setStroke_35 rfl ?_
  obtain ⟨x4, ex4, hf⟩ := oB hf
  refine v_getF (pc := 37) C lk_X1_219 (gR_eq ex4) dX1_setStroke_37 ?_
  refine v_aload (pc := 40) (j := 2) C dX1_setStroke_40 rfl ?_
  obtain ⟨b5, eb5, hf⟩ := oB hf
  obtain ⟨rb5, _, kb5⟩ := aIs_eq eb5
  obtain ⟨x6, ex6, hf⟩ := oB hf
  refine v_call (pc := 42) (d_V (pc := 42) C (As := [va_rf a5]) (rest := []) rb5 kb5 nt_15 q1857 yi_J2_contains_java_util_ArrayList yk_J2_contains rfl (by decide) (by decide) (Nat.le_trans aw_0 (by decide)) rfl (mJ2_contains C.st ex6) dX1_setStroke_42) ?_
  refine v_iload_n (pc := 45) (j := 0) C dX1_setStroke_45 rfl rfl ?_
  refine v_icmp_eq (pc := 46) (tgt := 53) C dX1_setStroke_46 rfl (fun hc => ?_) (fun hc => ?_)
  · simp only [if_pos hc] at hf
    refine v_iconst (pc := 53) (v := (0 : Int32)) C dX1_setStroke_53 rfl ?_
    exact V.sub [0, 1, 2] rfl (vX1_setStroke_p54 X hf)
  · simp only [if_neg hc] at hf
    refine v_iconst (pc := 49) (v := (1 : Int32)) C dX1_setStroke_49 rfl ?_
    refine v_goto (pc := 50) (tgt := 54) C dX1_setStroke_50 rfl ?_
    exact V.sub [0, 1, 2] rfl (vX1_setStroke_p54 X hf)
def fX1_setStroke (D : aD) (h : aH) (a0 : Option Nat) (a1 : Int32) (a2 : Int32) (a3 : Int32) : Option ((Nat ⊕ Int32) × aH) :=
  (aIs h 0 a0).bind fun _ =>
  bndT (fX1_figure D h a0 a1) fun x2 h3 =>
  (aIs h3 0 a0).bind fun _ =>
  bndT (fX1_stroke D h3 a0 a2) fun x5 h6 =>
  (gR h6 4 1 x2).bind fun x7 =>
  (gR h6 3 0 x5).bind fun x8 =>
  fX1_setStroke_p32 D h6 a3 x2 x5 (if x7 = x8 then (1 : Int32) else (0 : Int32))
theorem vX1_setStroke {h : aH} {a0 : Option Nat} {a1 : Int32} {a2 : Int32} {a3 : Int32} {q : Nat ⊕ Int32} {g : aH} (X : aX p l R s m meth c D n0 s0 yX1_setStroke cX1_setStroke 8 152 7 (some .int) h0) (hf : fX1_setStroke D h a0 a1 a2 a3 = some (q, g)) : V p l e R s m args below meth c D n0 s0 (aEnd D below args s h0 (wI q, g)) h 0 [(0, false, va_rf a0), (1, false, .int a1), (2, false, .int a2), (3, false, .int a3)] [] := by
  have C := X.1
  unfold fX1_setStroke at hf
  refine v_aload_n (pc := 0) (j := 0) C dX1_setStroke_0 rfl rfl ?_
  refine v_iload_n (pc := 1) (j := 1) C dX1_setStroke_1 rfl rfl ?_
  obtain ⟨b1, eb1, hf⟩ := oB hf
  obtain ⟨rb1, _, kb1⟩ := aIs_eq eb1
  rcases bndT_eq hf with ⟨_, _, ex2, qx2⟩ | ⟨x2, h3, ex2, hf⟩
  · cases qx2; exact v_ofDx (pc := 2) C X.2.1 X.2.2.1 rfl X.2.2.2.2.1 (d_V (pc := 2) C (As := [.int a1]) (rest := []) rb1 kb1 nt_0 q1849 yi_X1_figure_FigureSurvey yk_X1_figure rfl (by decide) (by decide) (Nat.le_trans aw_0 (by decide)) rfl (mX1_figure C.st ex2) dX1_setStroke_2)
  refine v_call (pc := 2) (d_V (pc := 2) C (As := [.int a1]) (rest := []) rb1 kb1 nt_0 q1849 yi_X1_figure_FigureSurvey yk_X1_figure rfl (by decide) (by decide) (Nat.le_trans aw_0 (by decide)) rfl (mX1_figure C.st ex2) dX1_setStroke_2) ?_
  refine v_astore (pc := 5) (lv' := [(4, false, va_rf x2), (0, false, va_rf a0), (1, false, .int a1), (2, false, .int a2), (3, false, .int a3)]) C dX1_setStroke_5 (by decide) rfl ?_
  refine v_aload_n (pc := 7) (j := 1) C dX1_setStroke_7 rfl rfl ?_
  refine v_iload_n (pc := 8) (j := 3) C dX1_setStroke_8 rfl rfl ?_
  obtain ⟨b4, eb4, hf⟩ := oB hf
  obtain ⟨rb4, _, kb4⟩ := aIs_eq eb4
  rcases bndT_eq hf with ⟨_, _, ex5, qx5⟩ | ⟨x5, h6, ex5, hf⟩
  · cases qx5; exact v_ofDx (pc := 9) C X.2.1 X.2.2.1 rfl X.2.2.2.2.1 (d_V (pc := 9) C (As := [.int a2]) (rest := []) rb4 kb4 nt_0 q1853 yi_X1_stroke_FigureSurvey yk_X1_stroke rfl (by decide) (by decide) (Nat.le_trans aw_0 (by decide)) rfl (mX1_stroke C.st ex5) dX1_setStroke_9)
  refine v_call (pc := 9) (d_V (pc := 9) C (As := [.int a2]) (rest := []) rb4 kb4 nt_0 q1853 yi_X1_stroke_FigureSurvey yk_X1_stroke rfl (by decide) (by decide) (Nat.le_trans aw_0 (by decide)) rfl (mX1_stroke C.st ex5) dX1_setStroke_9) ?_
  refine v_astore (pc := 12) (lv' := [(5, false, va_rf x5), (4, false, va_rf x2), (0, false, va_rf a0), (1, false, .int a1), (2, false, .int a2), (3, false, .int a3)]) C dX1_setStroke_12 (by decide) rfl ?_
  refine v_aload (pc := 14) (j := 1) C dX1_setStroke_14 rfl ?_
  obtain ⟨x7, ex7, hf⟩ := oB hf
  refine v_getF (pc := 16) C lk_X1_31 (gR_eq ex7) dX1_setStroke_16 ?_
  refine v_aload (pc := 19) (j := 0) C dX1_setStroke_19 rfl ?_
  obtain ⟨x8, ex8, hf⟩ := oB hf
  refine v_getF (pc := 21) C lk_X1_218 (gR_eq ex8) dX1_setStroke_21 ?_
  refine v_acmp_ne (pc := 24) (tgt := 31) C dX1_setStroke_24 rfl (fun hc => ?_) (fun hc => ?_)
  · simp only [if_neg hc] at hf
    refine v_iconst (pc := 31) (v := (0 : Int32)) C dX1_setStroke_31 rfl ?_
    exact V.sub [5, 1, 0] rfl (vX1_setStroke_p32 X hf)
  · simp only [if_pos (Decidable.of_not_not hc)] at hf
    refine v_iconst (pc := 27) (v := (1 : Int32)) C dX1_setStroke_27 rfl ?_
    refine v_goto (pc := 28) (tgt := 32) C dX1_setStroke_28 rfl ?_
    exact V.sub [5, 1, 0] rfl (vX1_setStroke_p32 X hf)
theorem mX1_setStroke {l : Launch} {D : aD} {h : aH} {a0 : Option Nat} {a1 : Int32} {a2 : Int32} {a3 : Int32} {q : Nat ⊕ Int32} {g : aH} (hst : l.stackTraces = false) (hf : fX1_setStroke D h a0 a1 a2 a3 = some (q, g)) : aM l D yX1_setStroke cX1_setStroke 7 (some .int) 8 152 [va_rf a0, .int a1, .int a2, .int a3] h (wI q, g) :=
  aM.ofX [(false, va_rf a0), (false, .int a1), (false, .int a2), (false, .int a3)] rfl (ap_r (ap_c rfl (ap_c rfl (ap_c rfl ap_0)))) (by decide +kernel) hst (al_of (aw_r (aw_i (aw_i (aw_i aw_0)))) (by decide)) fun p e s m args below meth c X => V.sub (lv' := [(0, false, va_rf a0), (1, false, .int a1), (2, false, .int a2), (3, false, .int a3)]) [0, 1, 2, 3] rfl (vX1_setStroke X hf)
def fX1_cellsOf (D : aD) (h : aH) (a0 : Option Nat) (a1 : Int32) : Option ((Nat ⊕ Int64) × aH) :=
  (aIs h 0 a0).bind fun _ =>
  bndT (fX1_figure D h a0 a1) fun x2 h3 =>
  (aIs h3 4 x2).bind fun _ =>
  (fX5_cells D h3 x2).bind fun x5 =>
  some (.inr x5, h3)
theorem vX1_cellsOf {h : aH} {a0 : Option Nat} {a1 : Int32} {q : Nat ⊕ Int64} {g : aH} (X : aX p l R s m meth c D n0 s0 yX1_cellsOf cX1_cellsOf 8 124 2 (some .long) h0) (hf : fX1_cellsOf D h a0 a1 = some (q, g)) : V p l e R s m args below meth c D n0 s0 (aEnd D below args s h0 (wJ q, g)) h 0 [(0, false, va_rf a0), (1, false, .int a1)] [] := by
  have C := X.1
  unfold fX1_cellsOf at hf
  refine v_aload_n (pc := 0) (j := 0) C dX1_cellsOf_0 rfl rfl ?_
  refine v_iload_n (pc := 1) (j := 1) C dX1_cellsOf_1 rfl rfl ?_
  obtain ⟨b1, eb1, hf⟩ := oB hf
  obtain ⟨rb1, _, kb1⟩ := aIs_eq eb1
  rcases bndT_eq hf with ⟨_, _, ex2, qx2⟩ | ⟨x2, h3, ex2, hf⟩
  · cases qx2; exact v_ofDx (pc := 2) C X.2.1 X.2.2.1 rfl X.2.2.2.2.1 (d_V (pc := 2) C (As := [.int a1]) (rest := []) rb1 kb1 nt_0 q1849 yi_X1_figure_FigureSurvey yk_X1_figure rfl (by decide) (by decide) (Nat.le_trans aw_0 (by decide)) rfl (mX1_figure C.st ex2) dX1_cellsOf_2)
  refine v_call (pc := 2) (d_V (pc := 2) C (As := [.int a1]) (rest := []) rb1 kb1 nt_0 q1849 yi_X1_figure_FigureSurvey yk_X1_figure rfl (by decide) (by decide) (Nat.le_trans aw_0 (by decide)) rfl (mX1_figure C.st ex2) dX1_cellsOf_2) ?_
  obtain ⟨b4, eb4, hf⟩ := oB hf
  obtain ⟨rb4, _, kb4⟩ := aIs_eq eb4
  obtain ⟨x5, ex5, hf⟩ := oB hf
  refine v_call (pc := 5) (d_V (pc := 5) C (As := []) (rest := []) rb4 kb4 nt_4 q1878 yi_X5_cells_FigureSurvey_Figure yk_X5_cells rfl (by decide) (by decide) (Nat.le_trans aw_0 (by decide)) rfl (mX5_cells C.st ex5) dX1_cellsOf_5) ?_
  cases hf
  exact v_lreturn (pc := 8) C X.2.1 X.2.2.1 X.2.2.2.1 rfl dX1_cellsOf_8
theorem mX1_cellsOf {l : Launch} {D : aD} {h : aH} {a0 : Option Nat} {a1 : Int32} {q : Nat ⊕ Int64} {g : aH} (hst : l.stackTraces = false) (hf : fX1_cellsOf D h a0 a1 = some (q, g)) : aM l D yX1_cellsOf cX1_cellsOf 2 (some .long) 8 124 [va_rf a0, .int a1] h (wJ q, g) :=
  aM.ofX [(false, va_rf a0), (false, .int a1)] rfl (ap_r (ap_c rfl ap_0)) (by decide +kernel) hst (al_of (aw_r (aw_i aw_0)) (by decide)) fun p e s m args below meth c X => V.sub (lv' := [(0, false, va_rf a0), (1, false, .int a1)]) [0, 1] rfl (vX1_cellsOf X hf)
def fX1_sharedCells (D : aD) (h : aH) (a0 : Option Nat) (a1 : Int32) (a2 : Int32) : Option ((Nat ⊕ Int32) × aH) :=
  (aIs h 0 a0).bind fun _ =>
  bndT (fX1_figure D h a0 a1) fun x2 h3 =>
  (aIs h3 0 a0).bind fun _ =>
  bndT (fX1_figure D h3 a0 a2) fun x5 h6 =>
  (gR h6 4 1 x2).bind fun x7 =>
  (gR h6 4 1 x5).bind fun x8 =>
  if x7 = x8 then
  ((aIs h6 4 x2).bind fun _ =>
  (fX5_cells D h6 x2).bind fun x10 =>
  (aIs h6 4 x5).bind fun _ =>
  (fX5_cells D h6 x5).bind fun x13 =>
  (fJ21_bitCount D h6 (x10 &&& x13)).bind fun x16 =>
  some (.inr x16, h6))
  else
  (some (.inr (0 : Int32), h6))
theorem vX1_sharedCells {h : aH} {a0 : Option Nat} {a1 : Int32} {a2 : Int32} {q : Nat ⊕ Int32} {g : aH} (X : aX p l R s m meth c D n0 s0 yX1_sharedCells cX1_sharedCells 8 124 5 (some .int) h0) (hf : fX1_sharedCells D h a0 a1 a2 = some (q, g)) : V p l e R s m args below meth c D n0 s0 (aEnd D below args s h0 (wI q, g)) h 0 [(0, false, va_rf a0), (1, false, .int a1), (2, false, .int a2)] [] := by
  have C := X.1
  unfold fX1_sharedCells at hf
  refine v_aload_n (pc := 0) (j := 0) C dX1_sharedCells_0 rfl rfl ?_
  refine v_iload_n (pc := 1) (j := 1) C dX1_sharedCells_1 rfl rfl ?_
  obtain ⟨b1, eb1, hf⟩ := oB hf
  obtain ⟨rb1, _, kb1⟩ := aIs_eq eb1
  rcases bndT_eq hf with ⟨_, _, ex2, qx2⟩ | ⟨x2, h3, ex2, hf⟩
  · cases qx2; exact v_ofDx (pc := 2) C X.2.1 X.2.2.1 rfl X.2.2.2.2.1 (d_V (pc := 2) C (As := [.int a1]) (rest := []) rb1 kb1 nt_0 q1849 yi_X1_figure_FigureSurvey yk_X1_figure rfl (by decide) (by decide) (Nat.le_trans aw_0 (by decide)) rfl (mX1_figure C.st ex2) dX1_sharedCells_2)
  refine v_call (pc := 2) (d_V (pc := 2) C (As := [.int a1]) (rest := []) rb1 kb1 nt_0 q1849 yi_X1_figure_FigureSurvey yk_X1_figure rfl (by decide) (by decide) (Nat.le_trans aw_0 (by decide)) rfl (mX1_figure C.st ex2) dX1_sharedCells_2) ?_
  refine v_astore_n (pc := 5) (lv' := [(3, false, va_rf x2), (0, false, va_rf a0), (1, false, .int a1), (2, false, .int a2)]) C dX1_sharedCells_5 rfl (by decide) rfl ?_
  refine v_aload_n (pc := 6) (j := 1) C dX1_sharedCells_6 rfl rfl ?_
  refine v_iload_n (pc := 7) (j := 3) C dX1_sharedCells_7 rfl rfl ?_
  obtain ⟨b4, eb4, hf⟩ := oB hf
  obtain ⟨rb4, _, kb4⟩ := aIs_eq eb4
  rcases bndT_eq hf with ⟨_, _, ex5, qx5⟩ | ⟨x5, h6, ex5, hf⟩
  · cases qx5; exact v_ofDx (pc := 8) C X.2.1 X.2.2.1 rfl X.2.2.2.2.1 (d_V (pc := 8) C (As := [.int a2]) (rest := []) rb4 kb4 nt_0 q1849 yi_X1_figure_FigureSurvey yk_X1_figure rfl (by decide) (by decide) (Nat.le_trans aw_0 (by decide)) rfl (mX1_figure C.st ex5) dX1_sharedCells_8)
  refine v_call (pc := 8) (d_V (pc := 8) C (As := [.int a2]) (rest := []) rb4 kb4 nt_0 q1849 yi_X1_figure_FigureSurvey yk_X1_figure rfl (by decide) (by decide) (Nat.le_trans aw_0 (by decide)) rfl (mX1_figure C.st ex5) dX1_sharedCells_8) ?_
  refine v_astore (pc := 11) (lv' := [(4, false, va_rf x5), (3, false, va_rf x2), (0, false, va_rf a0), (1, false, .int a1), (2, false, .int a2)]) C dX1_sharedCells_11 (by decide) rfl ?_
  refine v_aload_n (pc := 13) (j := 1) C dX1_sharedCells_13 rfl rfl ?_
  obtain ⟨x7, ex7, hf⟩ := oB hf
  refine v_getF (pc := 14) C lk_X1_31 (gR_eq ex7) dX1_sharedCells_14 ?_
  refine v_aload (pc := 17) (j := 0) C dX1_sharedCells_17 rfl ?_
  obtain ⟨x8, ex8, hf⟩ := oB hf
  refine v_getF (pc := 19) C lk_X1_31 (gR_eq ex8) dX1_sharedCells_19 ?_
  refine v_acmp_eq (pc := 22) (tgt := 29) C dX1_sharedCells_22 rfl (fun hc => ?_) (fun hc => ?_)
  · rw [if_pos hc] at hf
    refine v_aload_n (pc := 29) (j := 1) C dX1_sharedCells_29 rfl rfl ?_
    obtain ⟨b9, eb9, hf⟩ := oB hf
    obtain ⟨rb9, _, kb9⟩ := aIs_eq eb9
    obtain ⟨x10, ex10, hf⟩ := oB hf
    refine v_call (pc := 30) (d_V (pc := 30) C (As := []) (rest := []) rb9 kb9 nt_4 q1878 yi_X5_cells_FigureSurvey_Figure yk_X5_cells rfl (by decide) (by decide) (Nat.le_trans aw_0 (by decide)) rfl (mX5_cells C.st ex10) dX1_sharedCells_30) ?_
    refine v_aload (pc := 33) (j := 0) C dX1_sharedCells_33 rfl ?_
    obtain ⟨b12, eb12, hf⟩ := oB hf
    obtain ⟨rb12, _, kb12⟩ := aIs_eq eb12
    obtain ⟨x13, ex13, hf⟩ := oB hf
    refine v_call (pc := 35) (d_V (pc := 35) C (As := []) (rest := [.long x10]) rb12 kb12 nt_4 q1878 yi_X5_cells_FigureSurvey_Figure yk_X5_cells rfl (by decide) (by decide) (Nat.le_trans (aw_l aw_0) (by decide)) rfl (mX5_cells C.st ex13) dX1_sharedCells_35) ?_
    refine v_land (pc := 38) C dX1_sharedCells_38 ?_
    obtain ⟨x16, ex16, hf⟩ := oB hf
    refine v_call (pc := 39) (d_S (pc := 39) C (As := [.long (x10 &&& x13)]) (rest := []) q1886 q558 yk_J21_bitCount rfl (by decide) (by decide) (Nat.le_trans aw_0 (by decide)) rfl (mJ21_bitCount C.st ex16) dX1_sharedCells_39) ?_
    cases hf
    exact v_ireturn (pc := 42) C X.2.1 X.2.2.1 X.2.2.2.1 rfl dX1_sharedCells_42
  · rw [if_neg hc] at hf
    refine v_iconst (pc := 25) (v := (0 : Int32)) C dX1_sharedCells_25 rfl ?_
    refine v_goto (pc := 26) (tgt := 42) C dX1_sharedCells_26 rfl ?_
    cases hf
    exact v_ireturn (pc := 42) C X.2.1 X.2.2.1 X.2.2.2.1 rfl dX1_sharedCells_42
theorem mX1_sharedCells {l : Launch} {D : aD} {h : aH} {a0 : Option Nat} {a1 : Int32} {a2 : Int32} {q : Nat ⊕ Int32} {g : aH} (hst : l.stackTraces = false) (hf : fX1_sharedCells D h a0 a1 a2 = some (q, g)) : aM l D yX1_sharedCells cX1_sharedCells 5 (some .int) 8 124 [va_rf a0, .int a1, .int a2] h (wI q, g) :=
  aM.ofX [(false, va_rf a0), (false, .int a1), (false, .int a2)] rfl (ap_r (ap_c rfl (ap_c rfl ap_0))) (by decide +kernel) hst (al_of (aw_r (aw_i (aw_i aw_0))) (by decide)) fun p e s m args below meth c X => V.sub (lv' := [(0, false, va_rf a0), (1, false, .int a1), (2, false, .int a2)]) [0, 1, 2] rfl (vX1_sharedCells X hf)
def fX1_harm_p21 (D : aD) (h : aH) (a2 : Int64) (a4 : Option Nat) (t0 : Int32) : Option ((Nat ⊕ Int32) × aH) :=
  bndT (fX1_must D h t0) fun _ h3 =>
  (gL h3 2 4 a4).bind fun x4 =>
  (some ((a2 &&& (x4 ^^^ (-1 : Int64))))).bind fun x5 =>
  (gL h3 2 4 a4).bind fun x6 =>
  (pF D h3 2 4 a4 (.long (x6 ||| a2))).bind fun h7 =>
  (fJ21_bitCount D h7 x5).bind fun x9 =>
  some (.inr x9, h7)
theorem vX1_harm_p21 {h : aH} {a2 : Int64} {a4 : Option Nat} {t0 : Int32} {q : Nat ⊕ Int32} {g : aH} (X : aX p l R s m meth c D n0 s0 yX1_harm cX1_harm 8 124 7 (some .int) h0) (hf : fX1_harm_p21 D h a2 a4 t0 = some (q, g)) : V p l e R s m args below meth c D n0 s0 (aEnd D below args s h0 (wI q, g)) h 21 [(2, true, .long a2), (4, false, va_rf a4)] [.int t0] := by
  have C := X.1
  unfold fX1_harm_p21 at hf
  rcases bndT_eq hf with ⟨_, _, ex2, qx2⟩ | ⟨x2, h3, ex2, hf⟩
  · cases qx2; exact v_ofDx (pc := 21) C X.2.1 X.2.2.1 rfl X.2.2.2.2.1 (d_S (pc := 21) C (As := [.int t0]) (rest := []) q1595 q1596 yk_X1_must rfl (by decide) (by decide) (Nat.le_trans aw_0 (by decide)) rfl (mX1_must C.st ex2) dX1_harm_21)
  refine v_callU (pc := 21) (d_S (pc := 21) C (As := [.int t0]) (rest := []) q1595 q1596 yk_X1_must rfl (by decide) (by decide) (Nat.le_trans aw_0 (by decide)) rfl (mX1_must C.st ex2) dX1_harm_21) ?_
  refine v_lload_n (pc := 24) (j := 0) C dX1_harm_24 rfl rfl ?_
  refine v_aload (pc := 25) (j := 1) C dX1_harm_25 rfl ?_
  obtain ⟨x4, ex4, hf⟩ := oB hf
  refine v_getF (pc := 27) C lk_X1_235 (gL_eq ex4) dX1_harm_27 ?_
  refine v_ldc2 (pc := 30) (v := (-1 : Int64)) C q1901 dX1_harm_30 ?_
  refine v_lxor (pc := 33) C dX1_harm_33 ?_
  refine v_land (pc := 34) C dX1_harm_34 ?_
  obtain ⟨x5, ex5, hf⟩ := oB hf
  refine vst (Option.some.inj ex5) (fun z => .long z :: []) ?_
  refine v_lstore (pc := 35) (lv' := [(5, true, .long x5), (2, true, .long a2), (4, false, va_rf a4)]) C dX1_harm_35 (by decide) rfl ?_
  refine v_aload (pc := 37) (j := 2) C dX1_harm_37 rfl ?_
  refine v_dup (pc := 39) C dX1_harm_39 (va_rfc _) ?_
  obtain ⟨x6, ex6, hf⟩ := oB hf
  refine v_getF (pc := 40) C lk_X1_235 (gL_eq ex6) dX1_harm_40 ?_
  refine v_lload_n (pc := 43) (j := 1) C dX1_harm_43 rfl rfl ?_
  refine v_lor (pc := 44) C dX1_harm_44 ?_
  obtain ⟨h7, eh7, hf⟩ := oB hf
  refine v_putF (pc := 45) C lk_X1_235 tyX3 tyX3_ok nmX3 (tyX3_ok 4 (by decide)) rfl rfl eh7 dX1_harm_45 ?_
  refine v_lload (pc := 48) (j := 0) C dX1_harm_48 rfl ?_
  obtain ⟨x9, ex9, hf⟩ := oB hf
  refine v_call (pc := 50) (d_S (pc := 50) C (As := [.long x5]) (rest := []) q1886 q558 yk_J21_bitCount rfl (by decide) (by decide) (Nat.le_trans aw_0 (by decide)) rfl (mJ21_bitCount C.st ex9) dX1_harm_50) ?_
  cases hf
  exact v_ireturn (pc := 53) C X.2.1 X.2.2.1 X.2.2.2.1 rfl dX1_harm_53
def fX1_harm (D : aD) (h : aH) (a0 : Option Nat) (a1 : Int32) (a2 : Int64) : Option ((Nat ⊕ Int32) × aH) :=
  (aIs h 0 a0).bind fun _ =>
  bndT (fX1_panel D h a0 a1) fun x2 h3 =>
  (aIs h3 0 a0).bind fun _ =>
  (fX1_isDrowned D h3 a0 x2).bind fun x5 =>
  fX1_harm_p21 D h3 a2 x2 (if x5 = 0 then (1 : Int32) else (0 : Int32))
theorem vX1_harm {h : aH} {a0 : Option Nat} {a1 : Int32} {a2 : Int64} {q : Nat ⊕ Int32} {g : aH} (X : aX p l R s m meth c D n0 s0 yX1_harm cX1_harm 8 124 7 (some .int) h0) (hf : fX1_harm D h a0 a1 a2 = some (q, g)) : V p l e R s m args below meth c D n0 s0 (aEnd D below args s h0 (wI q, g)) h 0 [(0, false, va_rf a0), (1, false, .int a1), (2, true, .long a2)] [] := by
  have C := X.1
  unfold fX1_harm at hf
  refine v_aload_n (pc := 0) (j := 0) C dX1_harm_0 rfl rfl ?_
  refine v_iload_n (pc := 1) (j := 1) C dX1_harm_1 rfl rfl ?_
  obtain ⟨b1, eb1, hf⟩ := oB hf
  obtain ⟨rb1, _, kb1⟩ := aIs_eq eb1
  rcases bndT_eq hf with ⟨_, _, ex2, qx2⟩ | ⟨x2, h3, ex2, hf⟩
  · cases qx2; exact v_ofDx (pc := 2) C X.2.1 X.2.2.1 rfl X.2.2.2.2.1 (d_V (pc := 2) C (As := [.int a1]) (rest := []) rb1 kb1 nt_0 q1705 yi_X1_panel_FigureSurvey yk_X1_panel rfl (by decide) (by decide) (Nat.le_trans aw_0 (by decide)) rfl (mX1_panel C.st ex2) dX1_harm_2)
  refine v_call (pc := 2) (d_V (pc := 2) C (As := [.int a1]) (rest := []) rb1 kb1 nt_0 q1705 yi_X1_panel_FigureSurvey yk_X1_panel rfl (by decide) (by decide) (Nat.le_trans aw_0 (by decide)) rfl (mX1_panel C.st ex2) dX1_harm_2) ?_
  refine v_astore (pc := 5) (lv' := [(4, false, va_rf x2), (0, false, va_rf a0), (1, false, .int a1), (2, true, .long a2)]) C dX1_harm_5 (by decide) rfl ?_
  refine v_aload_n (pc := 7) (j := 1) C dX1_harm_7 rfl rfl ?_
  refine v_aload (pc := 8) (j := 0) C dX1_harm_8 rfl ?_
  obtain ⟨b4, eb4, hf⟩ := oB hf
  obtain ⟨rb4, _, kb4⟩ := aIs_eq eb4
  obtain ⟨x5, ex5, hf⟩ := oB hf
  refine v_call (pc := 10) (d_V (pc := 10) C (As := [va_rf x2]) (rest := []) rb4 kb4 nt_0 q398 yi_X1_isDrowned_FigureSurvey yk_X1_isDrowned rfl (by decide) (by decide) (Nat.le_trans aw_0 (by decide)) rfl (mX1_isDrowned C.st ex5) dX1_harm_10) ?_
  refine v_if_ne (pc := 13) (tgt := 20) C dX1_harm_13 rfl (fun hc => ?_) (fun hc => ?_)
  · simp only [if_neg hc] at hf
    refine v_iconst (pc := 20) (v := (0 : Int32)) C dX1_harm_20 rfl ?_
    exact V.sub [3, 0] rfl (vX1_harm_p21 X hf)
  · simp only [if_pos (Decidable.of_not_not hc)] at hf
    refine v_iconst (pc := 16) (v := (1 : Int32)) C dX1_harm_16 rfl ?_
    refine v_goto (pc := 17) (tgt := 21) C dX1_harm_17 rfl ?_
    exact V.sub [3, 0] rfl (vX1_harm_p21 X hf)
theorem mX1_harm {l : Launch} {D : aD} {h : aH} {a0 : Option Nat} {a1 : Int32} {a2 : Int64} {q : Nat ⊕ Int32} {g : aH} (hst : l.stackTraces = false) (hf : fX1_harm D h a0 a1 a2 = some (q, g)) : aM l D yX1_harm cX1_harm 7 (some .int) 8 124 [va_rf a0, .int a1, .long a2] h (wI q, g) :=
  aM.ofX [(false, va_rf a0), (false, .int a1), (true, .long a2)] rfl (ap_r (ap_c rfl (ap_c rfl ap_0))) (by decide +kernel) hst (al_of (aw_r (aw_i (aw_l aw_0))) (by decide)) fun p e s m args below meth c X => V.sub (lv' := [(0, false, va_rf a0), (1, false, .int a1), (2, true, .long a2)]) [0, 1, 2] rfl (vX1_harm X hf)
def fX1_cast_p82 (D : aD) (K27 : aH → (Option Nat) → (Option Nat) → Int32 → Int32 → Option ((Nat ⊕ Int32) × aH)) (h : aH) (a0 : Option Nat) (a2 : Option Nat) (a3 : Int32) (a4 : Int32) : Option ((Nat ⊕ Int32) × aH) :=
  K27 h a0 a2 a3 (a4 + 1)
theorem vX1_cast_p82 {h : aH} {K27 : aH → (Option Nat) → (Option Nat) → Int32 → Int32 → Option ((Nat ⊕ Int32) × aH)} {a0 : Option Nat} {a2 : Option Nat} {a3 : Int32} {a4 : Int32} {q : Nat ⊕ Int32} {g : aH} (X : aX p l R s m meth c D n0 s0 yX1_cast cX1_cast 8 124 6 (some .int) h0) (k27 : ∀ (h : aH) (a0 : Option Nat) (a2 : Option Nat) (a3 : Int32) (a4 : Int32) (q : Nat ⊕ Int32) (g : aH), K27 h a0 a2 a3 a4 = some (q, g) → V p l e R s m args below meth c D n0 s0 (aEnd D below args s h0 (wI q, g)) h 27 [(0, false, va_rf a0), (2, false, va_rf a2), (3, false, .int a3), (4, false, .int a4)] []) (hf : fX1_cast_p82 D K27 h a0 a2 a3 a4 = some (q, g)) : V p l e R s m args below meth c D n0 s0 (aEnd D below args s h0 (wI q, g)) h 82 [(0, false, va_rf a0), (2, false, va_rf a2), (3, false, .int a3), (4, false, .int a4)] [] := by
  have C := X.1
  unfold fX1_cast_p82 at hf
  refine v_iinc (pc := 82) (j := 3) (v := (a4 + 1)) (lv' := [(4, false, .int (a4 + 1)), (0, false, va_rf a0), (2, false, va_rf a2), (3, false, .int a3)]) C dX1_cast_82 rfl rfl (by decide) rfl ?_
  refine v_goto (pc := 85) (tgt := 27) C dX1_cast_85 rfl ?_
  exact V.sub [1, 2, 3, 0] rfl (k27 _ _ _ _ _ _ _ hf)
def fX1_cast_p27 (D : aD) : Nat → aH → (Option Nat) → (Option Nat) → Int32 → Int32 → Option ((Nat ⊕ Int32) × aH)
  | 0, _, _, _, _, _ => none
  | n + 1, h, a0, a2, a3, a4 =>
  (gR h 0 2 a0).bind fun x1 =>
  (aIs h 15 x1).bind fun _ =>
  (fJ2_size D h x1).bind fun x3 =>
  if x3 ≤ a4 then
  (some (.inr a3, h))
  else
  ((gR h 0 2 a0).bind fun x5 =>
  (aIs h 15 x5).bind fun _ =>
  (fJ2_get D h x5 a4).bind fun x7 =>
  (aCast h [3] x7).bind fun _ =>
  (gR h 3 0 x7).bind fun x10 =>
  if x10 = a2 then
  ((gI h 3 2 x7).bind fun x11 =>
  if x11 = 0 then
  ((pF D h 3 2 x7 (.int (1 : Int32))).bind fun h12 =>
  fX1_cast_p82 D (fX1_cast_p27 D n) h12 a0 a2 (a3 + 1) a4)
  else
  (fX1_cast_p82 D (fX1_cast_p27 D n) h a0 a2 a3 a4))
  else
  (fX1_cast_p82 D (fX1_cast_p27 D n) h a0 a2 a3 a4))
theorem vX1_cast_p27 (X : aX p l R s m meth c D n0 s0 yX1_cast cX1_cast 8 124 6 (some .int) h0) : ∀ (n : Nat) (h : aH) (a0 : Option Nat) (a2 : Option Nat) (a3 : Int32) (a4 : Int32) (q : Nat ⊕ Int32) (g : aH), fX1_cast_p27 D n h a0 a2 a3 a4 = some (q, g) → V p l e R s m args below meth c D n0 s0 (aEnd D below args s h0 (wI q, g)) h 27 [(0, false, va_rf a0), (2, false, va_rf a2), (3, false, .int a3), (4, false, .int a4)] [] := by
  have C := X.1
  intro n
  induction n with
  | zero =>
    intro _ _ _ _ _ _ _ hf
    rw [fX1_cast_p27] at hf
    cases hf
  | succ n ih =>
    intro h a0 a2 a3 a4 q g hf
    rw [fX1_cast_p27] at hf
    refine v_iload (pc := 27) (j := 3) C dX1_cast_27 rfl ?_
    refine v_aload_n (pc := 29) (j := 0) C dX1_cast_29 rfl rfl ?_
    obtain ⟨x1, ex1, hf⟩ := oB hf
    refine v_getF (pc := 30) C lk_X1_53 (gR_eq ex1) dX1_cast_30 ?_
    obtain ⟨b2, eb2, hf⟩ := oB hf
    obtain ⟨rb2, _, kb2⟩ := aIs_eq eb2
    obtain ⟨x3, ex3, hf⟩ := oB hf
    refine v_call (pc := 33) (d_V (pc := 33) C (As := []) (rest := [.int a4]) rb2 kb2 nt_15 q375 yi_J2_size_java_util_ArrayList yk_J2_size rfl (by decide) (by decide) (Nat.le_trans (aw_i aw_0) (by decide)) rfl (mJ2_size C.st ex3) dX1_cast_33) ?_
    refine v_icmp_ge (pc := 36) (tgt := 88) C dX1_cast_36 rfl (fun hc => ?_) (fun hc => ?_)
    · rw [if_pos hc] at hf
      refine v_iload_n (pc := 88) (j := 2) C dX1_cast_88 rfl rfl ?_
      cases hf
      exact v_ireturn (pc := 89) C X.2.1 X.2.2.1 X.2.2.2.1 rfl dX1_cast_89
    · rw [if_neg hc] at hf
      refine v_aload_n (pc := 39) (j := 0) C dX1_cast_39 rfl rfl ?_
      obtain ⟨x5, ex5, hf⟩ := oB hf
      refine v_getF (pc := 40) C lk_X1_53 (gR_eq ex5) dX1_cast_40 ?_
      refine v_iload (pc := 43) (j := 3) C dX1_cast_43 rfl ?_
      obtain ⟨b6, eb6, hf⟩ := oB hf
      obtain ⟨rb6, _, kb6⟩ := aIs_eq eb6
      obtain ⟨x7, ex7, hf⟩ := oB hf
      refine v_call (pc := 45) (d_V (pc := 45) C (As := [.int a4]) (rest := []) rb6 kb6 nt_15 q379 yi_J2_get_java_util_ArrayList yk_J2_get rfl (by decide) (by decide) (Nat.le_trans aw_0 (by decide)) rfl (mJ2_get C.st ex7) dX1_cast_45) ?_
      obtain ⟨_, e9, hf⟩ := oB hf
      refine v_cast (pc := 48) C q1776 ct_FigureSurvey_Stroke e9 dX1_cast_48 ?_
      refine v_astore (pc := 51) (lv' := [(5, false, va_rf x7), (0, false, va_rf a0), (2, false, va_rf a2), (3, false, .int a3), (4, false, .int a4)]) C dX1_cast_51 (by decide) rfl ?_
      refine v_aload (pc := 53) (j := 0) C dX1_cast_53 rfl ?_
      obtain ⟨x10, ex10, hf⟩ := oB hf
      refine v_getF (pc := 55) C lk_X1_218 (gR_eq ex10) dX1_cast_55 ?_
      refine v_aload_n (pc := 58) (j := 2) C dX1_cast_58 rfl rfl ?_
      refine v_acmp_ne (pc := 59) (tgt := 82) C dX1_cast_59 rfl (fun hc => ?_) (fun hc => ?_)
      · rw [if_neg hc] at hf
        exact V.sub [1, 2, 3, 4] rfl (vX1_cast_p82 X ih hf)
      · rw [if_pos (Decidable.of_not_not hc)] at hf
        refine v_aload (pc := 62) (j := 0) C dX1_cast_62 rfl ?_
        obtain ⟨x11, ex11, hf⟩ := oB hf
        refine v_getF (pc := 64) C lk_X1_241 (gI_eq ex11) dX1_cast_64 ?_
        refine v_if_eq (pc := 67) (tgt := 73) C dX1_cast_67 rfl (fun hc => ?_) (fun hc => ?_)
        · rw [if_pos hc] at hf
          refine v_aload (pc := 73) (j := 0) C dX1_cast_73 rfl ?_
          refine v_iconst (pc := 75) (v := (1 : Int32)) C dX1_cast_75 rfl ?_
          obtain ⟨h12, eh12, hf⟩ := oB hf
          refine v_putF (pc := 76) C lk_X1_241 tyX4 tyX4_ok nmX4 (tyX4_ok 2 (by decide)) (nr_z (by decide)) (ft_z (by decide)) eh12 dX1_cast_76 ?_
          refine v_iinc (pc := 79) (j := 3) (v := (a3 + 1)) (lv' := [(3, false, .int (a3 + 1)), (5, false, va_rf x7), (0, false, va_rf a0), (2, false, va_rf a2), (4, false, .int a4)]) C dX1_cast_79 rfl rfl (by decide) rfl ?_
          exact V.sub [2, 3, 0, 4] rfl (vX1_cast_p82 X ih hf)
        · rw [if_neg hc] at hf
          refine v_goto (pc := 70) (tgt := 82) C dX1_cast_70 rfl ?_
          exact V.sub [1, 2, 3, 4] rfl (vX1_cast_p82 X ih hf)
def fX1_cast_p19 (D : aD) (h : aH) (a0 : Option Nat) (a2 : Option Nat) (t0 : Int32) : Option ((Nat ⊕ Int32) × aH) :=
  bndT (fX1_must D h t0) fun _ h3 =>
  fX1_cast_p27 D FU h3 a0 a2 (0 : Int32) (0 : Int32)
theorem vX1_cast_p19 {h : aH} {a0 : Option Nat} {a2 : Option Nat} {t0 : Int32} {q : Nat ⊕ Int32} {g : aH} (X : aX p l R s m meth c D n0 s0 yX1_cast cX1_cast 8 124 6 (some .int) h0) (hf : fX1_cast_p19 D h a0 a2 t0 = some (q, g)) : V p l e R s m args below meth c D n0 s0 (aEnd D below args s h0 (wI q, g)) h 19 [(0, false, va_rf a0), (2, false, va_rf a2)] [.int t0] := by
  have C := X.1
  unfold fX1_cast_p19 at hf
  rcases bndT_eq hf with ⟨_, _, ex2, qx2⟩ | ⟨x2, h3, ex2, hf⟩
  · cases qx2; exact v_ofDx (pc := 19) C X.2.1 X.2.2.1 rfl X.2.2.2.2.1 (d_S (pc := 19) C (As := [.int t0]) (rest := []) q1595 q1596 yk_X1_must rfl (by decide) (by decide) (Nat.le_trans aw_0 (by decide)) rfl (mX1_must C.st ex2) dX1_cast_19)
  refine v_callU (pc := 19) (d_S (pc := 19) C (As := [.int t0]) (rest := []) q1595 q1596 yk_X1_must rfl (by decide) (by decide) (Nat.le_trans aw_0 (by decide)) rfl (mX1_must C.st ex2) dX1_cast_19) ?_
  refine v_iconst (pc := 22) (v := (0 : Int32)) C dX1_cast_22 rfl ?_
  refine v_istore_n (pc := 23) (lv' := [(3, false, .int (0 : Int32)), (0, false, va_rf a0), (2, false, va_rf a2)]) C dX1_cast_23 rfl (by decide) rfl ?_
  refine v_iconst (pc := 24) (v := (0 : Int32)) C dX1_cast_24 rfl ?_
  refine v_istore (pc := 25) (lv' := [(4, false, .int (0 : Int32)), (3, false, .int (0 : Int32)), (0, false, va_rf a0), (2, false, va_rf a2)]) C dX1_cast_25 (by decide) rfl ?_
  exact V.sub [2, 3, 1, 0] rfl (vX1_cast_p27 X _ _ _ _ _ _ _ _ hf)
def fX1_cast (D : aD) (h : aH) (a0 : Option Nat) (a1 : Int32) : Option ((Nat ⊕ Int32) × aH) :=
  (aIs h 0 a0).bind fun _ =>
  bndT (fX1_panel D h a0 a1) fun x2 h3 =>
  (aIs h3 0 a0).bind fun _ =>
  (fX1_isDrowned D h3 a0 x2).bind fun x5 =>
  fX1_cast_p19 D h3 a0 x2 (if x5 = 0 then (1 : Int32) else (0 : Int32))
theorem vX1_cast {h : aH} {a0 : Option Nat} {a1 : Int32} {q : Nat ⊕ Int32} {g : aH} (X : aX p l R s m meth c D n0 s0 yX1_cast cX1_cast 8 124 6 (some .int) h0) (hf : fX1_cast D h a0 a1 = some (q, g)) : V p l e R s m args below meth c D n0 s0 (aEnd D below args s h0 (wI q, g)) h 0 [(0, false, va_rf a0), (1, false, .int a1)] [] := by
  have C := X.1
  unfold fX1_cast at hf
  refine v_aload_n (pc := 0) (j := 0) C dX1_cast_0 rfl rfl ?_
  refine v_iload_n (pc := 1) (j := 1) C dX1_cast_1 rfl rfl ?_
  obtain ⟨b1, eb1, hf⟩ := oB hf
  obtain ⟨rb1, _, kb1⟩ := aIs_eq eb1
  rcases bndT_eq hf with ⟨_, _, ex2, qx2⟩ | ⟨x2, h3, ex2, hf⟩
  · cases qx2; exact v_ofDx (pc := 2) C X.2.1 X.2.2.1 rfl X.2.2.2.2.1 (d_V (pc := 2) C (As := [.int a1]) (rest := []) rb1 kb1 nt_0 q1705 yi_X1_panel_FigureSurvey yk_X1_panel rfl (by decide) (by decide) (Nat.le_trans aw_0 (by decide)) rfl (mX1_panel C.st ex2) dX1_cast_2)
  refine v_call (pc := 2) (d_V (pc := 2) C (As := [.int a1]) (rest := []) rb1 kb1 nt_0 q1705 yi_X1_panel_FigureSurvey yk_X1_panel rfl (by decide) (by decide) (Nat.le_trans aw_0 (by decide)) rfl (mX1_panel C.st ex2) dX1_cast_2) ?_
  refine v_astore_n (pc := 5) (lv' := [(2, false, va_rf x2), (0, false, va_rf a0), (1, false, .int a1)]) C dX1_cast_5 rfl (by decide) rfl ?_
  refine v_aload_n (pc := 6) (j := 1) C dX1_cast_6 rfl rfl ?_
  refine v_aload_n (pc := 7) (j := 0) C dX1_cast_7 rfl rfl ?_
  obtain ⟨b4, eb4, hf⟩ := oB hf
  obtain ⟨rb4, _, kb4⟩ := aIs_eq eb4
  obtain ⟨x5, ex5, hf⟩ := oB hf
  refine v_call (pc := 8) (d_V (pc := 8) C (As := [va_rf x2]) (rest := []) rb4 kb4 nt_0 q398 yi_X1_isDrowned_FigureSurvey yk_X1_isDrowned rfl (by decide) (by decide) (Nat.le_trans aw_0 (by decide)) rfl (mX1_isDrowned C.st ex5) dX1_cast_8) ?_
  refine v_if_ne (pc := 11) (tgt := 18) C dX1_cast_11 rfl (fun hc => ?_) (fun hc => ?_)
  · simp only [if_neg hc] at hf
    refine v_iconst (pc := 18) (v := (0 : Int32)) C dX1_cast_18 rfl ?_
    exact V.sub [1, 0] rfl (vX1_cast_p19 X hf)
  · simp only [if_pos (Decidable.of_not_not hc)] at hf
    refine v_iconst (pc := 14) (v := (1 : Int32)) C dX1_cast_14 rfl ?_
    refine v_goto (pc := 15) (tgt := 19) C dX1_cast_15 rfl ?_
    exact V.sub [1, 0] rfl (vX1_cast_p19 X hf)
theorem mX1_cast {l : Launch} {D : aD} {h : aH} {a0 : Option Nat} {a1 : Int32} {q : Nat ⊕ Int32} {g : aH} (hst : l.stackTraces = false) (hf : fX1_cast D h a0 a1 = some (q, g)) : aM l D yX1_cast cX1_cast 6 (some .int) 8 124 [va_rf a0, .int a1] h (wI q, g) :=
  aM.ofX [(false, va_rf a0), (false, .int a1)] rfl (ap_r (ap_c rfl ap_0)) (by decide +kernel) hst (al_of (aw_r (aw_i aw_0)) (by decide)) fun p e s m args below meth c X => V.sub (lv' := [(0, false, va_rf a0), (1, false, .int a1)]) [0, 1] rfl (vX1_cast X hf)
def fX6_init (D : aD) (h : aH) (a0 : Option Nat) (a1 : Int32) (a2 : Option Nat) (a3 : Int64) : Option (aH) :=
  (a0).bind fun _ =>
  (pF D h 5 0 a0 (.int a1)).bind fun h2 =>
  (pF D h2 5 1 a0 (va_rf a2)).bind fun h3 =>
  (pF D h3 5 2 a0 (.long a3)).bind fun h4 =>
  some h4
theorem vX6_init {h : aH} {a0 : Option Nat} {a1 : Int32} {a2 : Option Nat} {a3 : Int64} {g : aH} (X : aX p l R s m meth c D n0 s0 yX6_init cX6_init 1 12 5 (none) h0) (hf : fX6_init D h a0 a1 a2 a3 = some g) : V p l e R s m args below meth c D n0 s0 (aEnd D below args s h0 (.inr none, g)) h 0 [(0, false, va_rf a0), (1, false, .int a1), (2, false, va_rf a2), (3, true, .long a3)] [] := by
  have C := X.1
  unfold fX6_init at hf
  refine v_aload_n (pc := 0) (j := 0) C dX6_init_0 rfl rfl ?_
  obtain ⟨_, e1, hf⟩ := oB hf
  refine v_objInit (pc := 1) C e1 q1920 q138 q139 (by decide) (Nat.le_trans (Nat.add_le_add_right aw_0 12) (by decide)) dX6_init_1 ?_
  refine v_aload_n (pc := 4) (j := 0) C dX6_init_4 rfl rfl ?_
  refine v_iload_n (pc := 5) (j := 1) C dX6_init_5 rfl rfl ?_
  obtain ⟨h2, eh2, hf⟩ := oB hf
  refine v_putC (pc := 6) C X.2.2.2.2.2.1 lk_X6_9 rfl q1921 tyX6 tyX6_ok nmX6 (tyX6_ok 0 (by decide)) rfl rfl eh2 dX6_init_6 ?_
  refine v_aload_n (pc := 9) (j := 0) C dX6_init_9 rfl rfl ?_
  refine v_aload_n (pc := 10) (j := 2) C dX6_init_10 rfl rfl ?_
  obtain ⟨h3, eh3, hf⟩ := oB hf
  refine v_putC (pc := 11) C X.2.2.2.2.2.1 lk_X6_15 rfl q1923 tyX6 tyX6_ok nmX6 (tyX6_ok 1 (by decide)) rfl ft_o eh3 dX6_init_11 ?_
  refine v_aload_n (pc := 14) (j := 0) C dX6_init_14 rfl rfl ?_
  refine v_lload_n (pc := 15) (j := 3) C dX6_init_15 rfl rfl ?_
  obtain ⟨h4, eh4, hf⟩ := oB hf
  refine v_putC (pc := 16) C X.2.2.2.2.2.1 lk_X6_19 rfl q1924 tyX6 tyX6_ok nmX6 (tyX6_ok 2 (by decide)) rfl rfl eh4 dX6_init_16 ?_
  cases hf
  exact v_return (pc := 19) C X.2.1 X.2.2.1 X.2.2.2.1 rfl dX6_init_19
theorem mX6_init {l : Launch} {D : aD} {h : aH} {a0 : Option Nat} {a1 : Int32} {a2 : Option Nat} {a3 : Int64} {g : aH} (hst : l.stackTraces = false) (hf : fX6_init D h a0 a1 a2 a3 = some g) : aM l D yX6_init cX6_init 5 (none) 1 12 [va_rf a0, .int a1, va_rf a2, .long a3] h (.inr none, g) :=
  aM.ofX [(false, va_rf a0), (false, .int a1), (false, va_rf a2), (true, .long a3)] rfl (ap_r (ap_c rfl (ap_r (ap_c rfl ap_0)))) (by decide +kernel) hst (al_of (aw_r (aw_i (aw_r (aw_l aw_0)))) (by decide)) fun p e s m args below meth c X => V.sub (lv' := [(0, false, va_rf a0), (1, false, .int a1), (2, false, va_rf a2), (3, true, .long a3)]) [0, 1, 2, 3] rfl (vX6_init X hf)
def fX1_trace_p45 (D : aD) (h : aH) (a0 : Option Nat) (a1 : Int32) (a3 : Int64) (a5 : Option Nat) (t0 : Int32) : Option ((Nat ⊕ Int32) × aH) :=
  bndT (fX1_must D h t0) fun _ h3 =>
  (aMk D h3 (5, dfX6)).bind fun h4 =>
  (fX6_init D h4 (some h3.1) a1 a5 a3).bind fun h7 =>
  (gR h7 0 4 a0).bind fun x8 =>
  (aIs h7 15 x8).bind fun _ =>
  bnd2 (fJ2_add D h7 x8 (some h3.1)) fun x10 h11 =>
  (gR h11 4 3 a5).bind fun x12 =>
  (aIs h11 15 x12).bind fun _ =>
  bnd2 (fJ2_add D h11 x12 (some h3.1)) fun x14 h15 =>
  (gR h15 0 4 a0).bind fun x16 =>
  (aIs h15 15 x16).bind fun _ =>
  (fJ2_size D h15 x16).bind fun x18 =>
  some (.inr (x18 - (1 : Int32)), h15)
theorem vX1_trace_p45 {h : aH} {a0 : Option Nat} {a1 : Int32} {a3 : Int64} {a5 : Option Nat} {t0 : Int32} {q : Nat ⊕ Int32} {g : aH} (X : aX p l R s m meth c D n0 s0 yX1_trace cX1_trace 8 152 7 (some .int) h0) (hf : fX1_trace_p45 D h a0 a1 a3 a5 t0 = some (q, g)) : V p l e R s m args below meth c D n0 s0 (aEnd D below args s h0 (wI q, g)) h 45 [(0, false, va_rf a0), (1, false, .int a1), (3, true, .long a3), (5, false, va_rf a5)] [.int t0] := by
  have C := X.1
  unfold fX1_trace_p45 at hf
  rcases bndT_eq hf with ⟨_, _, ex2, qx2⟩ | ⟨x2, h3, ex2, hf⟩
  · cases qx2; exact v_ofDx (pc := 45) C X.2.1 X.2.2.1 rfl X.2.2.2.2.1 (d_S (pc := 45) C (As := [.int t0]) (rest := []) q1595 q1596 yk_X1_must rfl (by decide) (by decide) (Nat.le_trans aw_0 (by decide)) rfl (mX1_must C.st ex2) dX1_trace_45)
  refine v_callU (pc := 45) (d_S (pc := 45) C (As := [.int t0]) (rest := []) q1595 q1596 yk_X1_must rfl (by decide) (by decide) (Nat.le_trans aw_0 (by decide)) rfl (mX1_must C.st ex2) dX1_trace_45) ?_
  obtain ⟨h4, eh4, hf⟩ := oB hf
  refine v_new (pc := 48) (t := 5) (fs := dfX6) (T := TX6) (N := 3) C rfl in_X6 tyX6 tyX6_ok q1916 q552 q102 dfX6_ok rfl eh4 dX1_trace_48 ?_
  refine v_dup (pc := 51) C dX1_trace_51 (va_rfc _) ?_
  refine v_iload_n (pc := 52) (j := 1) C dX1_trace_52 rfl rfl ?_
  refine v_aload (pc := 53) (j := 3) C dX1_trace_53 rfl ?_
  refine v_lload_n (pc := 55) (j := 2) C dX1_trace_55 rfl rfl ?_
  obtain ⟨h7, ex6, hf⟩ := oB hf
  refine v_callU (pc := 56) (d_I (pc := 56) C (As := [.int a1, va_rf a5, .long a3]) (rest := [va_rf (some h3.1)]) rfl rfl rfl q1917 q1918 yk_X6_init rfl (by decide) (by decide) (Nat.le_trans (aw_r aw_0) (by decide)) rfl (mX6_init C.st ex6) dX1_trace_56) ?_
  refine v_astore (pc := 59) (lv' := [(6, false, va_rf (some h3.1)), (0, false, va_rf a0), (1, false, .int a1), (3, true, .long a3), (5, false, va_rf a5)]) C dX1_trace_59 (by decide) rfl ?_
  refine v_aload_n (pc := 61) (j := 1) C dX1_trace_61 rfl rfl ?_
  obtain ⟨x8, ex8, hf⟩ := oB hf
  refine v_getF (pc := 62) C lk_X1_59 (gR_eq ex8) dX1_trace_62 ?_
  refine v_aload (pc := 65) (j := 0) C dX1_trace_65 rfl ?_
  obtain ⟨b9, eb9, hf⟩ := oB hf
  obtain ⟨rb9, _, kb9⟩ := aIs_eq eb9
  obtain ⟨x10, h11, ex10, hf⟩ := bnd2_eq hf
  refine v_call (pc := 67) (d_V (pc := 67) C (As := [va_rf (some h3.1)]) (rest := []) rb9 kb9 nt_15 q1673 yi_J2_add_java_util_ArrayList yk_J2_add rfl (by decide) (by decide) (Nat.le_trans aw_0 (by decide)) rfl (mJ2_add C.st ex10) dX1_trace_67) ?_
  refine v_pop (pc := 70) C dX1_trace_70 rfl ?_
  refine v_aload (pc := 71) (j := 4) C dX1_trace_71 rfl ?_
  obtain ⟨x12, ex12, hf⟩ := oB hf
  refine v_getF (pc := 73) C lk_X1_248 (gR_eq ex12) dX1_trace_73 ?_
  refine v_aload (pc := 76) (j := 0) C dX1_trace_76 rfl ?_
  obtain ⟨b13, eb13, hf⟩ := oB hf
  obtain ⟨rb13, _, kb13⟩ := aIs_eq eb13
  obtain ⟨x14, h15, ex14, hf⟩ := bnd2_eq hf
  refine v_call (pc := 78) (d_V (pc := 78) C (As := [va_rf (some h3.1)]) (rest := []) rb13 kb13 nt_15 q1673 yi_J2_add_java_util_ArrayList yk_J2_add rfl (by decide) (by decide) (Nat.le_trans aw_0 (by decide)) rfl (mJ2_add C.st ex14) dX1_trace_78) ?_
  refine v_pop (pc := 81) C dX1_trace_81 rfl ?_
  refine v_aload_n (pc := 82) (j := 1) C dX1_trace_82 rfl rfl ?_
  obtain ⟨x16, ex16, hf⟩ := oB hf
  refine v_getF (pc := 83) C lk_X1_59 (gR_eq ex16) dX1_trace_83 ?_
  obtain ⟨b17, eb17, hf⟩ := oB hf
  obtain ⟨rb17, _, kb17⟩ := aIs_eq eb17
  obtain ⟨x18, ex18, hf⟩ := oB hf
  refine v_call (pc := 86) (d_V (pc := 86) C (As := []) (rest := []) rb17 kb17 nt_15 q375 yi_J2_size_java_util_ArrayList yk_J2_size rfl (by decide) (by decide) (Nat.le_trans aw_0 (by decide)) rfl (mJ2_size C.st ex18) dX1_trace_86) ?_
  refine v_iconst (pc := 89) (v := (1 : Int32)) C dX1_trace_89 rfl ?_
  refine v_isub (pc := 90) C dX1_trace_90 ?_
  cases hf
  exact v_ireturn (pc := 91) C X.2.1 X.2.2.1 X.2.2.2.1 rfl dX1_trace_91
def fX1_trace_p25 (D : aD) (h : aH) (a0 : Option Nat) (a1 : Int32) (a3 : Int64) (a5 : Option Nat) (t0 : Int32) : Option ((Nat ⊕ Int32) × aH) :=
  bndT (fX1_right D h t0) fun _ h3 =>
  (gR h3 0 4 a0).bind fun x4 =>
  (aIs h3 15 x4).bind fun _ =>
  (fJ2_size D h3 x4).bind fun x6 =>
  fX1_trace_p45 D h3 a0 a1 a3 a5 (if (40 : Int32) ≤ x6 then (0 : Int32) else (1 : Int32))
theorem vX1_trace_p25 {h : aH} {a0 : Option Nat} {a1 : Int32} {a3 : Int64} {a5 : Option Nat} {t0 : Int32} {q : Nat ⊕ Int32} {g : aH} (X : aX p l R s m meth c D n0 s0 yX1_trace cX1_trace 8 152 7 (some .int) h0) (hf : fX1_trace_p25 D h a0 a1 a3 a5 t0 = some (q, g)) : V p l e R s m args below meth c D n0 s0 (aEnd D below args s h0 (wI q, g)) h 25 [(0, false, va_rf a0), (1, false, .int a1), (3, true, .long a3), (5, false, va_rf a5)] [.int t0] := by
  have C := X.1
  unfold fX1_trace_p25 at hf
  rcases bndT_eq hf with ⟨_, _, ex2, qx2⟩ | ⟨x2, h3, ex2, hf⟩
  · cases qx2; exact v_ofDx (pc := 25) C X.2.1 X.2.2.1 rfl X.2.2.2.2.1 (d_S (pc := 25) C (As := [.int t0]) (rest := []) q1772 q1773 yk_X1_right rfl (by decide) (by decide) (Nat.le_trans aw_0 (by decide)) rfl (mX1_right C.st ex2) dX1_trace_25)
  refine v_callU (pc := 25) (d_S (pc := 25) C (As := [.int t0]) (rest := []) q1772 q1773 yk_X1_right rfl (by decide) (by decide) (Nat.le_trans aw_0 (by decide)) rfl (mX1_right C.st ex2) dX1_trace_25) ?_
  refine v_aload_n (pc := 28) (j := 0) C dX1_trace_28 rfl rfl ?_
  obtain ⟨x4, ex4, hf⟩ := oB hf
  refine v_getF (pc := 29) C lk_X1_59 (gR_eq ex4) dX1_trace_29 ?_
  obtain ⟨b5, eb5, hf⟩ := oB hf
  obtain ⟨rb5, _, kb5⟩ := aIs_eq eb5
  obtain ⟨x6, ex6, hf⟩ := oB hf
  refine v_call (pc := 32) (d_V (pc := 32) C (As := []) (rest := []) rb5 kb5 nt_15 q375 yi_J2_size_java_util_ArrayList yk_J2_size rfl (by decide) (by decide) (Nat.le_trans aw_0 (by decide)) rfl (mJ2_size C.st ex6) dX1_trace_32) ?_
  refine v_bipush (pc := 35) (v := (40 : Int32)) C dX1_trace_35 rfl ?_
  refine v_icmp_ge (pc := 37) (tgt := 44) C dX1_trace_37 rfl (fun hc => ?_) (fun hc => ?_)
  · simp only [if_pos hc] at hf
    refine v_iconst (pc := 44) (v := (0 : Int32)) C dX1_trace_44 rfl ?_
    exact V.sub [0, 1, 2, 3] rfl (vX1_trace_p45 X hf)
  · simp only [if_neg hc] at hf
    refine v_iconst (pc := 40) (v := (1 : Int32)) C dX1_trace_40 rfl ?_
    refine v_goto (pc := 41) (tgt := 45) C dX1_trace_41 rfl ?_
    exact V.sub [0, 1, 2, 3] rfl (vX1_trace_p45 X hf)
def fX1_trace (D : aD) (h : aH) (a0 : Option Nat) (a1 : Int32) (a2 : Int32) (a3 : Int64) : Option ((Nat ⊕ Int32) × aH) :=
  (aIs h 0 a0).bind fun _ =>
  bndT (fX1_figure D h a0 a2) fun x2 h3 =>
  bndT (fX1_in D h3 a1 (0 : Int32) (5 : Int32)) fun x5 h6 =>
  fX1_trace_p25 D h6 a0 a1 a3 x2 (if (lg_cmp a3 (0 : Int64)) = 0 then (0 : Int32) else (1 : Int32))
theorem vX1_trace {h : aH} {a0 : Option Nat} {a1 : Int32} {a2 : Int32} {a3 : Int64} {q : Nat ⊕ Int32} {g : aH} (X : aX p l R s m meth c D n0 s0 yX1_trace cX1_trace 8 152 7 (some .int) h0) (hf : fX1_trace D h a0 a1 a2 a3 = some (q, g)) : V p l e R s m args below meth c D n0 s0 (aEnd D below args s h0 (wI q, g)) h 0 [(0, false, va_rf a0), (1, false, .int a1), (2, false, .int a2), (3, true, .long a3)] [] := by
  have C := X.1
  unfold fX1_trace at hf
  refine v_aload_n (pc := 0) (j := 0) C dX1_trace_0 rfl rfl ?_
  refine v_iload_n (pc := 1) (j := 2) C dX1_trace_1 rfl rfl ?_
  obtain ⟨b1, eb1, hf⟩ := oB hf
  obtain ⟨rb1, _, kb1⟩ := aIs_eq eb1
  rcases bndT_eq hf with ⟨_, _, ex2, qx2⟩ | ⟨x2, h3, ex2, hf⟩
  · cases qx2; exact v_ofDx (pc := 2) C X.2.1 X.2.2.1 rfl X.2.2.2.2.1 (d_V (pc := 2) C (As := [.int a2]) (rest := []) rb1 kb1 nt_0 q1849 yi_X1_figure_FigureSurvey yk_X1_figure rfl (by decide) (by decide) (Nat.le_trans aw_0 (by decide)) rfl (mX1_figure C.st ex2) dX1_trace_2)
  refine v_call (pc := 2) (d_V (pc := 2) C (As := [.int a2]) (rest := []) rb1 kb1 nt_0 q1849 yi_X1_figure_FigureSurvey yk_X1_figure rfl (by decide) (by decide) (Nat.le_trans aw_0 (by decide)) rfl (mX1_figure C.st ex2) dX1_trace_2) ?_
  refine v_astore (pc := 5) (lv' := [(5, false, va_rf x2), (0, false, va_rf a0), (1, false, .int a1), (2, false, .int a2), (3, true, .long a3)]) C dX1_trace_5 (by decide) rfl ?_
  refine v_iload_n (pc := 7) (j := 2) C dX1_trace_7 rfl rfl ?_
  refine v_iconst (pc := 8) (v := (0 : Int32)) C dX1_trace_8 rfl ?_
  refine v_iconst (pc := 9) (v := (5 : Int32)) C dX1_trace_9 rfl ?_
  rcases bndT_eq hf with ⟨_, _, ex5, qx5⟩ | ⟨x5, h6, ex5, hf⟩
  · cases qx5; exact v_ofDx (pc := 10) C X.2.1 X.2.2.1 rfl X.2.2.2.2.1 (d_S (pc := 10) C (As := [.int a1, .int (0 : Int32), .int (5 : Int32)]) (rest := []) q1578 q1579 yk_X1_in rfl (by decide) (by decide) (Nat.le_trans aw_0 (by decide)) rfl (mX1_in C.st ex5) dX1_trace_10)
  refine v_call (pc := 10) (d_S (pc := 10) C (As := [.int a1, .int (0 : Int32), .int (5 : Int32)]) (rest := []) q1578 q1579 yk_X1_in rfl (by decide) (by decide) (Nat.le_trans aw_0 (by decide)) rfl (mX1_in C.st ex5) dX1_trace_10) ?_
  refine v_pop (pc := 13) C dX1_trace_13 rfl ?_
  refine v_lload_n (pc := 14) (j := 4) C dX1_trace_14 rfl rfl ?_
  refine v_lconst (pc := 15) (v := (0 : Int64)) C dX1_trace_15 rfl ?_
  refine v_lcmp (pc := 16) C dX1_trace_16 ?_
  refine v_if_eq (pc := 17) (tgt := 24) C dX1_trace_17 rfl (fun hc => ?_) (fun hc => ?_)
  · simp only [if_pos hc] at hf
    refine v_iconst (pc := 24) (v := (0 : Int32)) C dX1_trace_24 rfl ?_
    exact V.sub [1, 2, 4, 0] rfl (vX1_trace_p25 X hf)
  · simp only [if_neg hc] at hf
    refine v_iconst (pc := 20) (v := (1 : Int32)) C dX1_trace_20 rfl ?_
    refine v_goto (pc := 21) (tgt := 25) C dX1_trace_21 rfl ?_
    exact V.sub [1, 2, 4, 0] rfl (vX1_trace_p25 X hf)
theorem mX1_trace {l : Launch} {D : aD} {h : aH} {a0 : Option Nat} {a1 : Int32} {a2 : Int32} {a3 : Int64} {q : Nat ⊕ Int32} {g : aH} (hst : l.stackTraces = false) (hf : fX1_trace D h a0 a1 a2 a3 = some (q, g)) : aM l D yX1_trace cX1_trace 7 (some .int) 8 152 [va_rf a0, .int a1, .int a2, .long a3] h (wI q, g) :=
  aM.ofX [(false, va_rf a0), (false, .int a1), (false, .int a2), (true, .long a3)] rfl (ap_r (ap_c rfl (ap_c rfl (ap_c rfl ap_0)))) (by decide +kernel) hst (al_of (aw_r (aw_i (aw_i (aw_l aw_0)))) (by decide)) fun p e s m args below meth c X => V.sub (lv' := [(0, false, va_rf a0), (1, false, .int a1), (2, false, .int a2), (3, true, .long a3)]) [0, 1, 2, 3] rfl (vX1_trace X hf)
def fX1_tracing (D : aD) (h : aH) (a0 : Option Nat) (a1 : Int32) : Option ((Nat ⊕ Option Nat) × aH) :=
  (gR h 0 4 a0).bind fun x1 =>
  (gR h 0 4 a0).bind fun x2 =>
  (aIs h 15 x2).bind fun _ =>
  (fJ2_size D h x2).bind fun x4 =>
  bndT (fX1_there D h a1 x4) fun x7 h8 =>
  (aIs h8 15 x1).bind fun _ =>
  (fJ2_get D h8 x1 x7).bind fun x10 =>
  (aCast h8 [5] x10).bind fun _ =>
  some (.inr x10, h8)
theorem vX1_tracing {h : aH} {a0 : Option Nat} {a1 : Int32} {q : Nat ⊕ Option Nat} {g : aH} (X : aX p l R s m meth c D n0 s0 yX1_tracing cX1_tracing 7 103 2 (some (.object "FigureSurvey$Tracing")) h0) (hf : fX1_tracing D h a0 a1 = some (q, g)) : V p l e R s m args below meth c D n0 s0 (aEnd D below args s h0 (wA q, g)) h 0 [(0, false, va_rf a0), (1, false, .int a1)] [] := by
  have C := X.1
  unfold fX1_tracing at hf
  refine v_aload_n (pc := 0) (j := 0) C dX1_tracing_0 rfl rfl ?_
  obtain ⟨x1, ex1, hf⟩ := oB hf
  refine v_getF (pc := 1) C lk_X1_59 (gR_eq ex1) dX1_tracing_1 ?_
  refine v_iload_n (pc := 4) (j := 1) C dX1_tracing_4 rfl rfl ?_
  refine v_aload_n (pc := 5) (j := 0) C dX1_tracing_5 rfl rfl ?_
  obtain ⟨x2, ex2, hf⟩ := oB hf
  refine v_getF (pc := 6) C lk_X1_59 (gR_eq ex2) dX1_tracing_6 ?_
  obtain ⟨b3, eb3, hf⟩ := oB hf
  obtain ⟨rb3, _, kb3⟩ := aIs_eq eb3
  obtain ⟨x4, ex4, hf⟩ := oB hf
  refine v_call (pc := 9) (d_V (pc := 9) C (As := []) (rest := [.int a1, va_rf x1]) rb3 kb3 nt_15 q375 yi_J2_size_java_util_ArrayList yk_J2_size rfl (by decide) (by decide) (Nat.le_trans (aw_i (aw_r aw_0)) (by decide)) rfl (mJ2_size C.st ex4) dX1_tracing_9) ?_
  rcases bndT_eq hf with ⟨_, _, ex7, qx7⟩ | ⟨x7, h8, ex7, hf⟩
  · cases qx7; exact v_ofDx (pc := 12) C X.2.1 X.2.2.1 rfl X.2.2.2.2.1 (d_S (pc := 12) C (As := [.int a1, .int x4]) (rest := [va_rf x1]) q1709 q1710 yk_X1_there rfl (by decide) (by decide) (Nat.le_trans (aw_r aw_0) (by decide)) rfl (mX1_there C.st ex7) dX1_tracing_12)
  refine v_call (pc := 12) (d_S (pc := 12) C (As := [.int a1, .int x4]) (rest := [va_rf x1]) q1709 q1710 yk_X1_there rfl (by decide) (by decide) (Nat.le_trans (aw_r aw_0) (by decide)) rfl (mX1_there C.st ex7) dX1_tracing_12) ?_
  obtain ⟨b9, eb9, hf⟩ := oB hf
  obtain ⟨rb9, _, kb9⟩ := aIs_eq eb9
  obtain ⟨x10, ex10, hf⟩ := oB hf
  refine v_call (pc := 15) (d_V (pc := 15) C (As := [.int x7]) (rest := []) rb9 kb9 nt_15 q379 yi_J2_get_java_util_ArrayList yk_J2_get rfl (by decide) (by decide) (Nat.le_trans aw_0 (by decide)) rfl (mJ2_get C.st ex10) dX1_tracing_15) ?_
  obtain ⟨_, e12, hf⟩ := oB hf
  refine v_cast (pc := 18) C q1916 ct_FigureSurvey_Tracing e12 dX1_tracing_18 ?_
  cases hf
  exact v_areturn (pc := 21) C X.2.1 X.2.2.1 X.2.2.2.1 (Or.inl ⟨_, rfl⟩) rfl dX1_tracing_21
theorem mX1_tracing {l : Launch} {D : aD} {h : aH} {a0 : Option Nat} {a1 : Int32} {q : Nat ⊕ Option Nat} {g : aH} (hst : l.stackTraces = false) (hf : fX1_tracing D h a0 a1 = some (q, g)) : aM l D yX1_tracing cX1_tracing 2 (some (.object "FigureSurvey$Tracing")) 7 103 [va_rf a0, .int a1] h (wA q, g) :=
  aM.ofX [(false, va_rf a0), (false, .int a1)] rfl (ap_r (ap_c rfl ap_0)) (by decide +kernel) hst (al_of (aw_r (aw_i aw_0)) (by decide)) fun p e s m args below meth c X => V.sub (lv' := [(0, false, va_rf a0), (1, false, .int a1)]) [0, 1] rfl (vX1_tracing X hf)
def fX1_shiftOf (D : aD) (h : aH) (a0 : Option Nat) (a1 : Int32) : Option ((Nat ⊕ Int32) × aH) :=
  (aIs h 0 a0).bind fun _ =>
  bndT (fX1_tracing D h a0 a1) fun x2 h3 =>
  (aIs h3 5 x2).bind fun _ =>
  bnd2 (fX6_best D h3 x2) fun x5 h6 =>
  (gI h6 6 1 x5).bind fun x7 =>
  (gI h6 6 0 x5).bind fun x8 =>
  some (.inr ((((5 : Int32) * (x7 + (2 : Int32))) + x8) + (2 : Int32)), h6)
theorem vX1_shiftOf {h : aH} {a0 : Option Nat} {a1 : Int32} {q : Nat ⊕ Int32} {g : aH} (X : aX p l R s m meth c D n0 s0 yX1_shiftOf cX1_shiftOf 8 124 3 (some .int) h0) (hf : fX1_shiftOf D h a0 a1 = some (q, g)) : V p l e R s m args below meth c D n0 s0 (aEnd D below args s h0 (wI q, g)) h 0 [(0, false, va_rf a0), (1, false, .int a1)] [] := by
  have C := X.1
  unfold fX1_shiftOf at hf
  refine v_aload_n (pc := 0) (j := 0) C dX1_shiftOf_0 rfl rfl ?_
  refine v_iload_n (pc := 1) (j := 1) C dX1_shiftOf_1 rfl rfl ?_
  obtain ⟨b1, eb1, hf⟩ := oB hf
  obtain ⟨rb1, _, kb1⟩ := aIs_eq eb1
  rcases bndT_eq hf with ⟨_, _, ex2, qx2⟩ | ⟨x2, h3, ex2, hf⟩
  · cases qx2; exact v_ofDx (pc := 2) C X.2.1 X.2.2.1 rfl X.2.2.2.2.1 (d_V (pc := 2) C (As := [.int a1]) (rest := []) rb1 kb1 nt_0 q1939 yi_X1_tracing_FigureSurvey yk_X1_tracing rfl (by decide) (by decide) (Nat.le_trans aw_0 (by decide)) rfl (mX1_tracing C.st ex2) dX1_shiftOf_2)
  refine v_call (pc := 2) (d_V (pc := 2) C (As := [.int a1]) (rest := []) rb1 kb1 nt_0 q1939 yi_X1_tracing_FigureSurvey yk_X1_tracing rfl (by decide) (by decide) (Nat.le_trans aw_0 (by decide)) rfl (mX1_tracing C.st ex2) dX1_shiftOf_2) ?_
  obtain ⟨b4, eb4, hf⟩ := oB hf
  obtain ⟨rb4, _, kb4⟩ := aIs_eq eb4
  obtain ⟨x5, h6, ex5, hf⟩ := bnd2_eq hf
  refine v_call (pc := 5) (d_V (pc := 5) C (As := []) (rest := []) rb4 kb4 nt_5 q1943 yi_X6_best_FigureSurvey_Tracing yk_X6_best rfl (by decide) (by decide) (Nat.le_trans aw_0 (by decide)) rfl (mX6_best C.st ex5) dX1_shiftOf_5) ?_
  refine v_astore_n (pc := 8) (lv' := [(2, false, va_rf x5), (0, false, va_rf a0), (1, false, .int a1)]) C dX1_shiftOf_8 rfl (by decide) rfl ?_
  refine v_iconst (pc := 9) (v := (5 : Int32)) C dX1_shiftOf_9 rfl ?_
  refine v_aload_n (pc := 10) (j := 0) C dX1_shiftOf_10 rfl rfl ?_
  obtain ⟨x7, ex7, hf⟩ := oB hf
  refine v_getF (pc := 11) C lk_X1_257 (gI_eq ex7) dX1_shiftOf_11 ?_
  refine v_iconst (pc := 14) (v := (2 : Int32)) C dX1_shiftOf_14 rfl ?_
  refine v_iadd (pc := 15) C dX1_shiftOf_15 ?_
  refine v_imul (pc := 16) C dX1_shiftOf_16 ?_
  refine v_aload_n (pc := 17) (j := 0) C dX1_shiftOf_17 rfl rfl ?_
  obtain ⟨x8, ex8, hf⟩ := oB hf
  refine v_getF (pc := 18) C lk_X1_262 (gI_eq ex8) dX1_shiftOf_18 ?_
  refine v_iadd (pc := 21) C dX1_shiftOf_21 ?_
  refine v_iconst (pc := 22) (v := (2 : Int32)) C dX1_shiftOf_22 rfl ?_
  refine v_iadd (pc := 23) C dX1_shiftOf_23 ?_
  cases hf
  exact v_ireturn (pc := 24) C X.2.1 X.2.2.1 X.2.2.2.1 rfl dX1_shiftOf_24
theorem mX1_shiftOf {l : Launch} {D : aD} {h : aH} {a0 : Option Nat} {a1 : Int32} {q : Nat ⊕ Int32} {g : aH} (hst : l.stackTraces = false) (hf : fX1_shiftOf D h a0 a1 = some (q, g)) : aM l D yX1_shiftOf cX1_shiftOf 3 (some .int) 8 124 [va_rf a0, .int a1] h (wI q, g) :=
  aM.ofX [(false, va_rf a0), (false, .int a1)] rfl (ap_r (ap_c rfl ap_0)) (by decide +kernel) hst (al_of (aw_r (aw_i aw_0)) (by decide)) fun p e s m args below meth c X => V.sub (lv' := [(0, false, va_rf a0), (1, false, .int a1)]) [0, 1] rfl (vX1_shiftOf X hf)
def fX1_scoreOf (D : aD) (h : aH) (a0 : Option Nat) (a1 : Int32) : Option ((Nat ⊕ Int32) × aH) :=
  (aIs h 0 a0).bind fun _ =>
  bndT (fX1_tracing D h a0 a1) fun x2 h3 =>
  (aIs h3 5 x2).bind fun _ =>
  bnd2 (fX6_score D h3 x2) fun x5 h6 =>
  some (.inr x5, h6)
theorem vX1_scoreOf {h : aH} {a0 : Option Nat} {a1 : Int32} {q : Nat ⊕ Int32} {g : aH} (X : aX p l R s m meth c D n0 s0 yX1_scoreOf cX1_scoreOf 8 133 2 (some .int) h0) (hf : fX1_scoreOf D h a0 a1 = some (q, g)) : V p l e R s m args below meth c D n0 s0 (aEnd D below args s h0 (wI q, g)) h 0 [(0, false, va_rf a0), (1, false, .int a1)] [] := by
  have C := X.1
  unfold fX1_scoreOf at hf
  refine v_aload_n (pc := 0) (j := 0) C dX1_scoreOf_0 rfl rfl ?_
  refine v_iload_n (pc := 1) (j := 1) C dX1_scoreOf_1 rfl rfl ?_
  obtain ⟨b1, eb1, hf⟩ := oB hf
  obtain ⟨rb1, _, kb1⟩ := aIs_eq eb1
  rcases bndT_eq hf with ⟨_, _, ex2, qx2⟩ | ⟨x2, h3, ex2, hf⟩
  · cases qx2; exact v_ofDx (pc := 2) C X.2.1 X.2.2.1 rfl X.2.2.2.2.1 (d_V (pc := 2) C (As := [.int a1]) (rest := []) rb1 kb1 nt_0 q1939 yi_X1_tracing_FigureSurvey yk_X1_tracing rfl (by decide) (by decide) (Nat.le_trans aw_0 (by decide)) rfl (mX1_tracing C.st ex2) dX1_scoreOf_2)
  refine v_call (pc := 2) (d_V (pc := 2) C (As := [.int a1]) (rest := []) rb1 kb1 nt_0 q1939 yi_X1_tracing_FigureSurvey yk_X1_tracing rfl (by decide) (by decide) (Nat.le_trans aw_0 (by decide)) rfl (mX1_tracing C.st ex2) dX1_scoreOf_2) ?_
  obtain ⟨b4, eb4, hf⟩ := oB hf
  obtain ⟨rb4, _, kb4⟩ := aIs_eq eb4
  obtain ⟨x5, h6, ex5, hf⟩ := bnd2_eq hf
  refine v_call (pc := 5) (d_V (pc := 5) C (As := []) (rest := []) rb4 kb4 nt_5 q1951 yi_X6_score_FigureSurvey_Tracing yk_X6_score rfl (by decide) (by decide) (Nat.le_trans aw_0 (by decide)) rfl (mX6_score C.st ex5) dX1_scoreOf_5) ?_
  cases hf
  exact v_ireturn (pc := 8) C X.2.1 X.2.2.1 X.2.2.2.1 rfl dX1_scoreOf_8
theorem mX1_scoreOf {l : Launch} {D : aD} {h : aH} {a0 : Option Nat} {a1 : Int32} {q : Nat ⊕ Int32} {g : aH} (hst : l.stackTraces = false) (hf : fX1_scoreOf D h a0 a1 = some (q, g)) : aM l D yX1_scoreOf cX1_scoreOf 2 (some .int) 8 133 [va_rf a0, .int a1] h (wI q, g) :=
  aM.ofX [(false, va_rf a0), (false, .int a1)] rfl (ap_r (ap_c rfl ap_0)) (by decide +kernel) hst (al_of (aw_r (aw_i aw_0)) (by decide)) fun p e s m args below meth c X => V.sub (lv' := [(0, false, va_rf a0), (1, false, .int a1)]) [0, 1] rfl (vX1_scoreOf X hf)
def fX1_handScore_p69 (D : aD) (K14 : aH → (Option Nat) → Int32 → Int32 → Int32 → Int32 → Option ((Nat ⊕ Int32) × aH)) (h : aH) (a0 : Option Nat) (a1 : Int32) (a2 : Int32) (a3 : Int32) (a4 : Int32) : Option ((Nat ⊕ Int32) × aH) :=
  K14 h a0 a1 a2 a3 (a4 + 1)
theorem vX1_handScore_p69 {h : aH} {K14 : aH → (Option Nat) → Int32 → Int32 → Int32 → Int32 → Option ((Nat ⊕ Int32) × aH)} {a0 : Option Nat} {a1 : Int32} {a2 : Int32} {a3 : Int32} {a4 : Int32} {q : Nat ⊕ Int32} {g : aH} (X : aX p l R s m meth c D n0 s0 yX1_handScore cX1_handScore 7 133 5 (some .int) h0) (k14 : ∀ (h : aH) (a0 : Option Nat) (a1 : Int32) (a2 : Int32) (a3 : Int32) (a4 : Int32) (q : Nat ⊕ Int32) (g : aH), K14 h a0 a1 a2 a3 a4 = some (q, g) → V p l e R s m args below meth c D n0 s0 (aEnd D below args s h0 (wI q, g)) h 14 [(0, false, va_rf a0), (1, false, .int a1), (2, false, .int a2), (3, false, .int a3), (4, false, .int a4)] []) (hf : fX1_handScore_p69 D K14 h a0 a1 a2 a3 a4 = some (q, g)) : V p l e R s m args below meth c D n0 s0 (aEnd D below args s h0 (wI q, g)) h 69 [(0, false, va_rf a0), (1, false, .int a1), (2, false, .int a2), (3, false, .int a3), (4, false, .int a4)] [] := by
  have C := X.1
  unfold fX1_handScore_p69 at hf
  refine v_iinc (pc := 69) (j := 4) (v := (a4 + 1)) (lv' := [(4, false, .int (a4 + 1)), (0, false, va_rf a0), (1, false, .int a1), (2, false, .int a2), (3, false, .int a3)]) C dX1_handScore_69 rfl rfl (by decide) rfl ?_
  refine v_goto (pc := 72) (tgt := 14) C dX1_handScore_72 rfl ?_
  exact V.sub [1, 2, 3, 4, 0] rfl (k14 _ _ _ _ _ _ _ _ hf)
def fX1_handScore_p75 (D : aD) (h : aH) (a2 : Int32) (a3 : Int32) : Option ((Nat ⊕ Int32) × aH) :=
  if a3 = 0 then
  (some (.inr (-1 : Int32), h))
  else
  ((ckN a3).bind fun _ =>
  some (.inr (a2 / a3), h))
theorem vX1_handScore_p75 {h : aH} {a2 : Int32} {a3 : Int32} {q : Nat ⊕ Int32} {g : aH} (X : aX p l R s m meth c D n0 s0 yX1_handScore cX1_handScore 7 133 5 (some .int) h0) (hf : fX1_handScore_p75 D h a2 a3 = some (q, g)) : V p l e R s m args below meth c D n0 s0 (aEnd D below args s h0 (wI q, g)) h 75 [(2, false, .int a2), (3, false, .int a3)] [] := by
  have C := X.1
  unfold fX1_handScore_p75 at hf
  refine v_iload_n (pc := 75) (j := 1) C dX1_handScore_75 rfl rfl ?_
  refine v_if_ne (pc := 76) (tgt := 83) C dX1_handScore_76 rfl (fun hc => ?_) (fun hc => ?_)
  · rw [if_neg hc] at hf
    refine v_iload_n (pc := 83) (j := 0) C dX1_handScore_83 rfl rfl ?_
    refine v_iload_n (pc := 84) (j := 1) C dX1_handScore_84 rfl rfl ?_
    obtain ⟨_, e1, hf⟩ := oB hf
    refine v_idiv (pc := 85) C dX1_handScore_85 (ckN_eq e1) ?_
    cases hf
    exact v_ireturn (pc := 86) C X.2.1 X.2.2.1 X.2.2.2.1 rfl dX1_handScore_86
  · rw [if_pos (Decidable.of_not_not hc)] at hf
    refine v_iconst (pc := 79) (v := (-1 : Int32)) C dX1_handScore_79 rfl ?_
    refine v_goto (pc := 80) (tgt := 86) C dX1_handScore_80 rfl ?_
    cases hf
    exact v_ireturn (pc := 86) C X.2.1 X.2.2.1 X.2.2.2.1 rfl dX1_handScore_86
def fX1_handScore_p14 (D : aD) : Nat → aH → (Option Nat) → Int32 → Int32 → Int32 → Int32 → Option ((Nat ⊕ Int32) × aH)
  | 0, _, _, _, _, _, _ => none
  | n + 1, h, a0, a1, a2, a3, a4 =>
  (gR h 0 4 a0).bind fun x1 =>
  (aIs h 15 x1).bind fun _ =>
  (fJ2_size D h x1).bind fun x3 =>
  if x3 ≤ a4 then
  (fX1_handScore_p75 D h a2 a3)
  else
  ((gR h 0 4 a0).bind fun x5 =>
  (aIs h 15 x5).bind fun _ =>
  (fJ2_get D h x5 a4).bind fun x7 =>
  (aCast h [5] x7).bind fun _ =>
  (gI h 5 0 x7).bind fun x10 =>
  if x10 = a1 then
  ((gR h 0 4 a0).bind fun x11 =>
  (aIs h 15 x11).bind fun _ =>
  (fJ2_get D h x11 a4).bind fun x13 =>
  (aCast h [5] x13).bind fun _ =>
  (aIs h 5 x13).bind fun _ =>
  bnd2 (fX6_score D h x13) fun x17 h18 =>
  (some ((a2 + x17))).bind fun x19 =>
  fX1_handScore_p69 D (fX1_handScore_p14 D n) h18 a0 a1 x19 (a3 + 1) a4)
  else
  (fX1_handScore_p69 D (fX1_handScore_p14 D n) h a0 a1 a2 a3 a4))
theorem vX1_handScore_p14 (X : aX p l R s m meth c D n0 s0 yX1_handScore cX1_handScore 7 133 5 (some .int) h0) : ∀ (n : Nat) (h : aH) (a0 : Option Nat) (a1 : Int32) (a2 : Int32) (a3 : Int32) (a4 : Int32) (q : Nat ⊕ Int32) (g : aH), fX1_handScore_p14 D n h a0 a1 a2 a3 a4 = some (q, g) → V p l e R s m args below meth c D n0 s0 (aEnd D below args s h0 (wI q, g)) h 14 [(0, false, va_rf a0), (1, false, .int a1), (2, false, .int a2), (3, false, .int a3), (4, false, .int a4)] [] := by
  have C := X.1
  intro n
  induction n with
  | zero =>
    intro _ _ _ _ _ _ _ _ hf
    rw [fX1_handScore_p14] at hf
    cases hf
  | succ n ih =>
    intro h a0 a1 a2 a3 a4 q g hf
    rw [fX1_handScore_p14] at hf
    refine v_iload (pc := 14) (j := 4) C dX1_handScore_14 rfl ?_
    refine v_aload_n (pc := 16) (j := 0) C dX1_handScore_16 rfl rfl ?_
    obtain ⟨x1, ex1, hf⟩ := oB hf
    refine v_getF (pc := 17) C lk_X1_59 (gR_eq ex1) dX1_handScore_17 ?_
    obtain ⟨b2, eb2, hf⟩ := oB hf
    obtain ⟨rb2, _, kb2⟩ := aIs_eq eb2
    obtain ⟨x3, ex3, hf⟩ := oB hf
    refine v_call (pc := 20) (d_V (pc := 20) C (As := []) (rest := [.int a4]) rb2 kb2 nt_15 q375 yi_J2_size_java_util_ArrayList yk_J2_size rfl (by decide) (by decide) (Nat.le_trans (aw_i aw_0) (by decide)) rfl (mJ2_size C.st ex3) dX1_handScore_20) ?_
    refine v_icmp_ge (pc := 23) (tgt := 75) C dX1_handScore_23 rfl (fun hc => ?_) (fun hc => ?_)
    · rw [if_pos hc] at hf
      exact V.sub [2, 3] rfl (vX1_handScore_p75 X hf)
    · rw [if_neg hc] at hf
      refine v_aload_n (pc := 26) (j := 0) C dX1_handScore_26 rfl rfl ?_
      obtain ⟨x5, ex5, hf⟩ := oB hf
      refine v_getF (pc := 27) C lk_X1_59 (gR_eq ex5) dX1_handScore_27 ?_
      refine v_iload (pc := 30) (j := 4) C dX1_handScore_30 rfl ?_
      obtain ⟨b6, eb6, hf⟩ := oB hf
      obtain ⟨rb6, _, kb6⟩ := aIs_eq eb6
      obtain ⟨x7, ex7, hf⟩ := oB hf
      refine v_call (pc := 32) (d_V (pc := 32) C (As := [.int a4]) (rest := []) rb6 kb6 nt_15 q379 yi_J2_get_java_util_ArrayList yk_J2_get rfl (by decide) (by decide) (Nat.le_trans aw_0 (by decide)) rfl (mJ2_get C.st ex7) dX1_handScore_32) ?_
      obtain ⟨_, e9, hf⟩ := oB hf
      refine v_cast (pc := 35) C q1916 ct_FigureSurvey_Tracing e9 dX1_handScore_35 ?_
      obtain ⟨x10, ex10, hf⟩ := oB hf
      refine v_getF (pc := 38) C lk_X1_268 (gI_eq ex10) dX1_handScore_38 ?_
      refine v_iload_n (pc := 41) (j := 1) C dX1_handScore_41 rfl rfl ?_
      refine v_icmp_eq (pc := 42) (tgt := 48) C dX1_handScore_42 rfl (fun hc => ?_) (fun hc => ?_)
      · rw [if_pos hc] at hf
        refine v_iload_n (pc := 48) (j := 2) C dX1_handScore_48 rfl rfl ?_
        refine v_aload_n (pc := 49) (j := 0) C dX1_handScore_49 rfl rfl ?_
        obtain ⟨x11, ex11, hf⟩ := oB hf
        refine v_getF (pc := 50) C lk_X1_59 (gR_eq ex11) dX1_handScore_50 ?_
        refine v_iload (pc := 53) (j := 4) C dX1_handScore_53 rfl ?_
        obtain ⟨b12, eb12, hf⟩ := oB hf
        obtain ⟨rb12, _, kb12⟩ := aIs_eq eb12
        obtain ⟨x13, ex13, hf⟩ := oB hf
        refine v_call (pc := 55) (d_V (pc := 55) C (As := [.int a4]) (rest := [.int a2]) rb12 kb12 nt_15 q379 yi_J2_get_java_util_ArrayList yk_J2_get rfl (by decide) (by decide) (Nat.le_trans (aw_i aw_0) (by decide)) rfl (mJ2_get C.st ex13) dX1_handScore_55) ?_
        obtain ⟨_, e15, hf⟩ := oB hf
        refine v_cast (pc := 58) C q1916 ct_FigureSurvey_Tracing e15 dX1_handScore_58 ?_
        obtain ⟨b16, eb16, hf⟩ := oB hf
        obtain ⟨rb16, _, kb16⟩ := aIs_eq eb16
        obtain ⟨x17, h18, ex17, hf⟩ := bnd2_eq hf
        refine v_call (pc := 61) (d_V (pc := 61) C (As := []) (rest := [.int a2]) rb16 kb16 nt_5 q1951 yi_X6_score_FigureSurvey_Tracing yk_X6_score rfl (by decide) (by decide) (Nat.le_trans (aw_i aw_0) (by decide)) rfl (mX6_score C.st ex17) dX1_handScore_61) ?_
        refine v_iadd (pc := 64) C dX1_handScore_64 ?_
        obtain ⟨x19, ex19, hf⟩ := oB hf
        refine vst (Option.some.inj ex19) (fun z => .int z :: []) ?_
        refine v_istore_n (pc := 65) (lv' := [(2, false, .int x19), (0, false, va_rf a0), (1, false, .int a1), (3, false, .int a3), (4, false, .int a4)]) C dX1_handScore_65 rfl (by decide) rfl ?_
        refine v_iinc (pc := 66) (j := 3) (v := (a3 + 1)) (lv' := [(3, false, .int (a3 + 1)), (2, false, .int x19), (0, false, va_rf a0), (1, false, .int a1), (4, false, .int a4)]) C dX1_handScore_66 rfl rfl (by decide) rfl ?_
        exact V.sub [2, 3, 1, 0, 4] rfl (vX1_handScore_p69 X ih hf)
      · rw [if_neg hc] at hf
        refine v_goto (pc := 45) (tgt := 69) C dX1_handScore_45 rfl ?_
        exact V.sub [0, 1, 2, 3, 4] rfl (vX1_handScore_p69 X ih hf)
def fX1_handScore (D : aD) (h : aH) (a0 : Option Nat) (a1 : Int32) : Option ((Nat ⊕ Int32) × aH) :=
  bndT (fX1_in D h a1 (0 : Int32) (5 : Int32)) fun x2 h3 =>
  fX1_handScore_p14 D FU h3 a0 a1 (0 : Int32) (0 : Int32) (0 : Int32)
theorem vX1_handScore {h : aH} {a0 : Option Nat} {a1 : Int32} {q : Nat ⊕ Int32} {g : aH} (X : aX p l R s m meth c D n0 s0 yX1_handScore cX1_handScore 7 133 5 (some .int) h0) (hf : fX1_handScore D h a0 a1 = some (q, g)) : V p l e R s m args below meth c D n0 s0 (aEnd D below args s h0 (wI q, g)) h 0 [(0, false, va_rf a0), (1, false, .int a1)] [] := by
  have C := X.1
  unfold fX1_handScore at hf
  refine v_iload_n (pc := 0) (j := 1) C dX1_handScore_0 rfl rfl ?_
  refine v_iconst (pc := 1) (v := (0 : Int32)) C dX1_handScore_1 rfl ?_
  refine v_iconst (pc := 2) (v := (5 : Int32)) C dX1_handScore_2 rfl ?_
  rcases bndT_eq hf with ⟨_, _, ex2, qx2⟩ | ⟨x2, h3, ex2, hf⟩
  · cases qx2; exact v_ofDx (pc := 3) C X.2.1 X.2.2.1 rfl X.2.2.2.2.1 (d_S (pc := 3) C (As := [.int a1, .int (0 : Int32), .int (5 : Int32)]) (rest := []) q1578 q1579 yk_X1_in rfl (by decide) (by decide) (Nat.le_trans aw_0 (by decide)) rfl (mX1_in C.st ex2) dX1_handScore_3)
  refine v_call (pc := 3) (d_S (pc := 3) C (As := [.int a1, .int (0 : Int32), .int (5 : Int32)]) (rest := []) q1578 q1579 yk_X1_in rfl (by decide) (by decide) (Nat.le_trans aw_0 (by decide)) rfl (mX1_in C.st ex2) dX1_handScore_3) ?_
  refine v_pop (pc := 6) C dX1_handScore_6 rfl ?_
  refine v_iconst (pc := 7) (v := (0 : Int32)) C dX1_handScore_7 rfl ?_
  refine v_istore_n (pc := 8) (lv' := [(2, false, .int (0 : Int32)), (0, false, va_rf a0), (1, false, .int a1)]) C dX1_handScore_8 rfl (by decide) rfl ?_
  refine v_iconst (pc := 9) (v := (0 : Int32)) C dX1_handScore_9 rfl ?_
  refine v_istore_n (pc := 10) (lv' := [(3, false, .int (0 : Int32)), (2, false, .int (0 : Int32)), (0, false, va_rf a0), (1, false, .int a1)]) C dX1_handScore_10 rfl (by decide) rfl ?_
  refine v_iconst (pc := 11) (v := (0 : Int32)) C dX1_handScore_11 rfl ?_
  refine v_istore (pc := 12) (lv' := [(4, false, .int (0 : Int32)), (3, false, .int (0 : Int32)), (2, false, .int (0 : Int32)), (0, false, va_rf a0), (1, false, .int a1)]) C dX1_handScore_12 (by decide) rfl ?_
  exact V.sub [3, 4, 2, 1, 0] rfl (vX1_handScore_p14 X _ _ _ _ _ _ _ _ _ hf)
theorem mX1_handScore {l : Launch} {D : aD} {h : aH} {a0 : Option Nat} {a1 : Int32} {q : Nat ⊕ Int32} {g : aH} (hst : l.stackTraces = false) (hf : fX1_handScore D h a0 a1 = some (q, g)) : aM l D yX1_handScore cX1_handScore 5 (some .int) 7 133 [va_rf a0, .int a1] h (wI q, g) :=
  aM.ofX [(false, va_rf a0), (false, .int a1)] rfl (ap_r (ap_c rfl ap_0)) (by decide +kernel) hst (al_of (aw_r (aw_i aw_0)) (by decide)) fun p e s m args below meth c X => V.sub (lv' := [(0, false, va_rf a0), (1, false, .int a1)]) [0, 1] rfl (vX1_handScore X hf)
def fX6_aligned (D : aD) (h : aH) (a0 : Option Nat) : Option (Int64 × aH) :=
  (aIs h 5 a0).bind fun _ =>
  bnd2 (fX6_best D h a0) fun x2 h3 =>
  (gI h3 6 0 x2).bind fun x4 =>
  (gI h3 6 1 x2).bind fun x5 =>
  (aIs h3 5 a0).bind fun _ =>
  (fX6_shifted D h3 a0 x4 x5).bind fun x7 =>
  some (x7, h3)
theorem vX6_aligned {h : aH} {a0 : Option Nat} {q : Int64} {g : aH} (X : aX p l R s m meth c D n0 s0 yX6_aligned cX6_aligned 5 113 2 (some .long) h0) (hf : fX6_aligned D h a0 = some (q, g)) : V p l e R s m args below meth c D n0 s0 (aEnd D below args s h0 (.inr (some (.long q)), g)) h 0 [(0, false, va_rf a0)] [] := by
  have C := X.1
  unfold fX6_aligned at hf
  refine v_aload_n (pc := 0) (j := 0) C dX6_aligned_0 rfl rfl ?_
  obtain ⟨b1, eb1, hf⟩ := oB hf
  obtain ⟨rb1, _, kb1⟩ := aIs_eq eb1
  obtain ⟨x2, h3, ex2, hf⟩ := bnd2_eq hf
  refine v_call (pc := 1) (d_V (pc := 1) C (As := []) (rest := []) rb1 kb1 nt_5 q533 yi_X6_best_FigureSurvey_Tracing yk_X6_best rfl (by decide) (by decide) (Nat.le_trans aw_0 (by decide)) rfl (mX6_best C.st ex2) dX6_aligned_1) ?_
  refine v_astore_n (pc := 4) (lv' := [(1, false, va_rf x2), (0, false, va_rf a0)]) C dX6_aligned_4 rfl (by decide) rfl ?_
  refine v_aload_n (pc := 5) (j := 1) C dX6_aligned_5 rfl rfl ?_
  refine v_aload_n (pc := 6) (j := 0) C dX6_aligned_6 rfl rfl ?_
  obtain ⟨x4, ex4, hf⟩ := oB hf
  refine v_getF (pc := 7) C lk_X6_55 (gI_eq ex4) dX6_aligned_7 ?_
  refine v_aload_n (pc := 10) (j := 0) C dX6_aligned_10 rfl rfl ?_
  obtain ⟨x5, ex5, hf⟩ := oB hf
  refine v_getF (pc := 11) C lk_X6_58 (gI_eq ex5) dX6_aligned_11 ?_
  obtain ⟨b6, eb6, hf⟩ := oB hf
  obtain ⟨rb6, _, kb6⟩ := aIs_eq eb6
  obtain ⟨x7, ex7, hf⟩ := oB hf
  refine v_call (pc := 14) (d_V (pc := 14) C (As := [.int x4, .int x5]) (rest := []) rb6 kb6 nt_5 q549 yi_X6_shifted_FigureSurvey_Tracing yk_X6_shifted rfl (by decide) (by decide) (Nat.le_trans aw_0 (by decide)) rfl (mX6_shifted C.st ex7) dX6_aligned_14) ?_
  cases hf
  exact v_lreturn (pc := 17) C X.2.1 X.2.2.1 X.2.2.2.1 rfl dX6_aligned_17
theorem mX6_aligned {l : Launch} {D : aD} {h : aH} {a0 : Option Nat} {q : Int64} {g : aH} (hst : l.stackTraces = false) (hf : fX6_aligned D h a0 = some (q, g)) : aM l D yX6_aligned cX6_aligned 2 (some .long) 5 113 [va_rf a0] h (.inr (some (.long q)), g) :=
  aM.ofX [(false, va_rf a0)] rfl (ap_r ap_0) (by decide +kernel) hst (al_of (aw_r aw_0) (by decide)) fun p e s m args below meth c X => V.sub (lv' := [(0, false, va_rf a0)]) [0] rfl (vX6_aligned X hf)
def fX1_consensus_p71 (D : aD) (K14 : aH → (Option Nat) → (Option Nat) → Int32 → Option ((Nat ⊕ Int64) × aH)) (K46 : aH → (Option Nat) → (Option Nat) → Int32 → Int64 → Int32 → Option ((Nat ⊕ Int64) × aH)) (h : aH) (a2 : Option Nat) (a3 : Option Nat) (a4 : Int32) (a5 : Int64) (a7 : Int32) : Option ((Nat ⊕ Int64) × aH) :=
  K46 h a2 a3 a4 a5 (a7 + 1)
theorem vX1_consensus_p71 {h : aH} {K14 : aH → (Option Nat) → (Option Nat) → Int32 → Option ((Nat ⊕ Int64) × aH)} {K46 : aH → (Option Nat) → (Option Nat) → Int32 → Int64 → Int32 → Option ((Nat ⊕ Int64) × aH)} {a2 : Option Nat} {a3 : Option Nat} {a4 : Int32} {a5 : Int64} {a7 : Int32} {q : Nat ⊕ Int64} {g : aH} (X : aX p l R s m meth c D n0 s0 yX1_consensus cX1_consensus 8 134 8 (some .long) h0) (k14 : ∀ (h : aH) (a2 : Option Nat) (a3 : Option Nat) (a4 : Int32) (q : Nat ⊕ Int64) (g : aH), K14 h a2 a3 a4 = some (q, g) → V p l e R s m args below meth c D n0 s0 (aEnd D below args s h0 (wJ q, g)) h 14 [(2, false, va_rf a2), (3, false, va_rf a3), (4, false, .int a4)] []) (k46 : ∀ (h : aH) (a2 : Option Nat) (a3 : Option Nat) (a4 : Int32) (a5 : Int64) (a7 : Int32) (q : Nat ⊕ Int64) (g : aH), K46 h a2 a3 a4 a5 a7 = some (q, g) → V p l e R s m args below meth c D n0 s0 (aEnd D below args s h0 (wJ q, g)) h 46 [(2, false, va_rf a2), (3, false, va_rf a3), (4, false, .int a4), (5, true, .long a5), (7, false, .int a7)] []) (hf : fX1_consensus_p71 D K14 K46 h a2 a3 a4 a5 a7 = some (q, g)) : V p l e R s m args below meth c D n0 s0 (aEnd D below args s h0 (wJ q, g)) h 71 [(2, false, va_rf a2), (3, false, va_rf a3), (4, false, .int a4), (5, true, .long a5), (7, false, .int a7)] [] := by
  have C := X.1
  unfold fX1_consensus_p71 at hf
  refine v_iinc (pc := 71) (j := 4) (v := (a7 + 1)) (lv' := [(7, false, .int (a7 + 1)), (2, false, va_rf a2), (3, false, va_rf a3), (4, false, .int a4), (5, true, .long a5)]) C dX1_consensus_71 rfl rfl (by decide) rfl ?_
  refine v_goto (pc := 74) (tgt := 46) C dX1_consensus_74 rfl ?_
  exact V.sub [1, 2, 3, 4, 0] rfl (k46 _ _ _ _ _ _ _ _ hf)
def fX1_consensus_p77 (D : aD) (K14 : aH → (Option Nat) → (Option Nat) → Int32 → Option ((Nat ⊕ Int64) × aH)) (h : aH) (a2 : Option Nat) (a3 : Option Nat) (a4 : Int32) : Option ((Nat ⊕ Int64) × aH) :=
  K14 h a2 a3 (a4 + 1)
theorem vX1_consensus_p77 {h : aH} {K14 : aH → (Option Nat) → (Option Nat) → Int32 → Option ((Nat ⊕ Int64) × aH)} {a2 : Option Nat} {a3 : Option Nat} {a4 : Int32} {q : Nat ⊕ Int64} {g : aH} (X : aX p l R s m meth c D n0 s0 yX1_consensus cX1_consensus 8 134 8 (some .long) h0) (k14 : ∀ (h : aH) (a2 : Option Nat) (a3 : Option Nat) (a4 : Int32) (q : Nat ⊕ Int64) (g : aH), K14 h a2 a3 a4 = some (q, g) → V p l e R s m args below meth c D n0 s0 (aEnd D below args s h0 (wJ q, g)) h 14 [(2, false, va_rf a2), (3, false, va_rf a3), (4, false, .int a4)] []) (hf : fX1_consensus_p77 D K14 h a2 a3 a4 = some (q, g)) : V p l e R s m args below meth c D n0 s0 (aEnd D below args s h0 (wJ q, g)) h 77 [(2, false, va_rf a2), (3, false, va_rf a3), (4, false, .int a4)] [] := by
  have C := X.1
  unfold fX1_consensus_p77 at hf
  refine v_iinc (pc := 77) (j := 2) (v := (a4 + 1)) (lv' := [(4, false, .int (a4 + 1)), (2, false, va_rf a2), (3, false, va_rf a3)]) C dX1_consensus_77 rfl rfl (by decide) rfl ?_
  refine v_goto (pc := 80) (tgt := 14) C dX1_consensus_80 rfl ?_
  exact V.sub [1, 2, 0] rfl (k14 _ _ _ _ _ _ hf)
def fX1_consensus_p46 (D : aD) (K14 : aH → (Option Nat) → (Option Nat) → Int32 → Option ((Nat ⊕ Int64) × aH)) : Nat → aH → (Option Nat) → (Option Nat) → Int32 → Int64 → Int32 → Option ((Nat ⊕ Int64) × aH)
  | 0, _, _, _, _, _, _ => none
  | n + 1, h, a2, a3, a4, a5, a7 =>
  if (64 : Int32) ≤ a7 then
  (fX1_consensus_p77 D K14 h a2 a3 a4)
  else
  ((fX1_has D h a5 a7).bind fun x2 =>
  if x2 = 0 then
  (fX1_consensus_p71 D K14 (fX1_consensus_p46 D K14 n) h a2 a3 a4 a5 a7)
  else
  ((eI h a3 a7).bind fun x4 =>
  (sF D h 100 a3 a7 (.int (x4 + (1 : Int32)))).bind fun h5 =>
  fX1_consensus_p71 D K14 (fX1_consensus_p46 D K14 n) h5 a2 a3 a4 a5 a7))
theorem vX1_consensus_p46 {K14 : aH → (Option Nat) → (Option Nat) → Int32 → Option ((Nat ⊕ Int64) × aH)} (X : aX p l R s m meth c D n0 s0 yX1_consensus cX1_consensus 8 134 8 (some .long) h0) (k14 : ∀ (h : aH) (a2 : Option Nat) (a3 : Option Nat) (a4 : Int32) (q : Nat ⊕ Int64) (g : aH), K14 h a2 a3 a4 = some (q, g) → V p l e R s m args below meth c D n0 s0 (aEnd D below args s h0 (wJ q, g)) h 14 [(2, false, va_rf a2), (3, false, va_rf a3), (4, false, .int a4)] []) : ∀ (n : Nat) (h : aH) (a2 : Option Nat) (a3 : Option Nat) (a4 : Int32) (a5 : Int64) (a7 : Int32) (q : Nat ⊕ Int64) (g : aH), fX1_consensus_p46 D K14 n h a2 a3 a4 a5 a7 = some (q, g) → V p l e R s m args below meth c D n0 s0 (aEnd D below args s h0 (wJ q, g)) h 46 [(2, false, va_rf a2), (3, false, va_rf a3), (4, false, .int a4), (5, true, .long a5), (7, false, .int a7)] [] := by
  have C := X.1
  intro n
  induction n with
  | zero =>
    intro _ _ _ _ _ _ _ _ hf
    rw [fX1_consensus_p46] at hf
    cases hf
  | succ n ih =>
    intro h a2 a3 a4 a5 a7 q g hf
    rw [fX1_consensus_p46] at hf
    refine v_iload (pc := 46) (j := 4) C dX1_consensus_46 rfl ?_
    refine v_bipush (pc := 48) (v := (64 : Int32)) C dX1_consensus_48 rfl ?_
    refine v_icmp_ge (pc := 50) (tgt := 77) C dX1_consensus_50 rfl (fun hc => ?_) (fun hc => ?_)
    · rw [if_pos hc] at hf
      exact V.sub [0, 1, 2] rfl (vX1_consensus_p77 X k14 hf)
    · rw [if_neg hc] at hf
      refine v_lload (pc := 53) (j := 3) C dX1_consensus_53 rfl ?_
      refine v_iload (pc := 55) (j := 4) C dX1_consensus_55 rfl ?_
      obtain ⟨x2, ex2, hf⟩ := oB hf
      refine v_call (pc := 57) (d_S (pc := 57) C (As := [.long a5, .int a7]) (rest := []) q1970 q555 yk_X1_has rfl (by decide) (by decide) (Nat.le_trans aw_0 (by decide)) rfl (mX1_has C.st ex2) dX1_consensus_57) ?_
      refine v_if_eq (pc := 60) (tgt := 71) C dX1_consensus_60 rfl (fun hc => ?_) (fun hc => ?_)
      · rw [if_pos hc] at hf
        exact V.sub [0, 1, 2, 3, 4] rfl (vX1_consensus_p71 X k14 ih hf)
      · rw [if_neg hc] at hf
        refine v_aload_n (pc := 63) (j := 1) C dX1_consensus_63 rfl rfl ?_
        refine v_iload (pc := 64) (j := 4) C dX1_consensus_64 rfl ?_
        refine v_dup2_11 (pc := 66) C dX1_consensus_66 rfl (va_rfc _) ?_
        obtain ⟨x4, ex4, hf⟩ := oB hf
        refine v_iaload (pc := 67) C ex4 dX1_consensus_67 ?_
        refine v_iconst (pc := 68) (v := (1 : Int32)) C dX1_consensus_68 rfl ?_
        refine v_iadd (pc := 69) C dX1_consensus_69 ?_
        obtain ⟨h5, eh5, hf⟩ := oB hf
        refine v_iastore (pc := 70) C eh5 dX1_consensus_70 ?_
        exact V.sub [0, 1, 2, 3, 4] rfl (vX1_consensus_p71 X k14 ih hf)
def fX1_consensus_p121 (D : aD) (K89 : aH → (Option Nat) → (Option Nat) → Int64 → Int32 → Option ((Nat ⊕ Int64) × aH)) (h : aH) (a2 : Option Nat) (a3 : Option Nat) (a4 : Int64) (a6 : Int32) : Option ((Nat ⊕ Int64) × aH) :=
  K89 h a2 a3 a4 (a6 + 1)
theorem vX1_consensus_p121 {h : aH} {K89 : aH → (Option Nat) → (Option Nat) → Int64 → Int32 → Option ((Nat ⊕ Int64) × aH)} {a2 : Option Nat} {a3 : Option Nat} {a4 : Int64} {a6 : Int32} {q : Nat ⊕ Int64} {g : aH} (X : aX p l R s m meth c D n0 s0 yX1_consensus cX1_consensus 8 134 8 (some .long) h0) (k89 : ∀ (h : aH) (a2 : Option Nat) (a3 : Option Nat) (a4 : Int64) (a6 : Int32) (q : Nat ⊕ Int64) (g : aH), K89 h a2 a3 a4 a6 = some (q, g) → V p l e R s m args below meth c D n0 s0 (aEnd D below args s h0 (wJ q, g)) h 89 [(2, false, va_rf a2), (3, false, va_rf a3), (4, true, .long a4), (6, false, .int a6)] []) (hf : fX1_consensus_p121 D K89 h a2 a3 a4 a6 = some (q, g)) : V p l e R s m args below meth c D n0 s0 (aEnd D below args s h0 (wJ q, g)) h 121 [(2, false, va_rf a2), (3, false, va_rf a3), (4, true, .long a4), (6, false, .int a6)] [] := by
  have C := X.1
  unfold fX1_consensus_p121 at hf
  refine v_iinc (pc := 121) (j := 3) (v := (a6 + 1)) (lv' := [(6, false, .int (a6 + 1)), (2, false, va_rf a2), (3, false, va_rf a3), (4, true, .long a4)]) C dX1_consensus_121 rfl rfl (by decide) rfl ?_
  refine v_goto (pc := 124) (tgt := 89) C dX1_consensus_124 rfl ?_
  exact V.sub [1, 2, 3, 0] rfl (k89 _ _ _ _ _ _ _ hf)
def fX1_consensus_p127 (D : aD) (h : aH) (a4 : Int64) : Option ((Nat ⊕ Int64) × aH) :=
  some (.inr a4, h)
theorem vX1_consensus_p127 {h : aH} {a4 : Int64} {q : Nat ⊕ Int64} {g : aH} (X : aX p l R s m meth c D n0 s0 yX1_consensus cX1_consensus 8 134 8 (some .long) h0) (hf : fX1_consensus_p127 D h a4 = some (q, g)) : V p l e R s m args below meth c D n0 s0 (aEnd D below args s h0 (wJ q, g)) h 127 [(4, true, .long a4)] [] := by
  have C := X.1
  unfold fX1_consensus_p127 at hf
  refine v_lload (pc := 127) (j := 0) C dX1_consensus_127 rfl ?_
  cases hf
  exact v_lreturn (pc := 129) C X.2.1 X.2.2.1 X.2.2.2.1 rfl dX1_consensus_129
def fX1_consensus_p89 (D : aD) : Nat → aH → (Option Nat) → (Option Nat) → Int64 → Int32 → Option ((Nat ⊕ Int64) × aH)
  | 0, _, _, _, _, _ => none
  | n + 1, h, a2, a3, a4, a6 =>
  if (64 : Int32) ≤ a6 then
  (fX1_consensus_p127 D h a4)
  else
  ((eI h a3 a6).bind fun x1 =>
  (gR h 4 3 a2).bind fun x2 =>
  (aIs h 15 x2).bind fun _ =>
  (fJ2_size D h x2).bind fun x4 =>
  if ((2 : Int32) * x1) ≤ x4 then
  (fX1_consensus_p121 D (fX1_consensus_p89 D n) h a2 a3 a4 a6)
  else
  ((some ((a4 ||| ((1 : Int64) <<< (a6.toInt64 &&& 63))))).bind fun x6 =>
  fX1_consensus_p121 D (fX1_consensus_p89 D n) h a2 a3 x6 a6))
theorem vX1_consensus_p89 (X : aX p l R s m meth c D n0 s0 yX1_consensus cX1_consensus 8 134 8 (some .long) h0) : ∀ (n : Nat) (h : aH) (a2 : Option Nat) (a3 : Option Nat) (a4 : Int64) (a6 : Int32) (q : Nat ⊕ Int64) (g : aH), fX1_consensus_p89 D n h a2 a3 a4 a6 = some (q, g) → V p l e R s m args below meth c D n0 s0 (aEnd D below args s h0 (wJ q, g)) h 89 [(2, false, va_rf a2), (3, false, va_rf a3), (4, true, .long a4), (6, false, .int a6)] [] := by
  have C := X.1
  intro n
  induction n with
  | zero =>
    intro _ _ _ _ _ _ _ hf
    rw [fX1_consensus_p89] at hf
    cases hf
  | succ n ih =>
    intro h a2 a3 a4 a6 q g hf
    rw [fX1_consensus_p89] at hf
    refine v_iload (pc := 89) (j := 3) C dX1_consensus_89 rfl ?_
    refine v_bipush (pc := 91) (v := (64 : Int32)) C dX1_consensus_91 rfl ?_
    refine v_icmp_ge (pc := 93) (tgt := 127) C dX1_consensus_93 rfl (fun hc => ?_) (fun hc => ?_)
    · rw [if_pos hc] at hf
      exact V.sub [2] rfl (vX1_consensus_p127 X hf)
    · rw [if_neg hc] at hf
      refine v_iconst (pc := 96) (v := (2 : Int32)) C dX1_consensus_96 rfl ?_
      refine v_aload_n (pc := 97) (j := 1) C dX1_consensus_97 rfl rfl ?_
      refine v_iload (pc := 98) (j := 3) C dX1_consensus_98 rfl ?_
      obtain ⟨x1, ex1, hf⟩ := oB hf
      refine v_iaload (pc := 100) C ex1 dX1_consensus_100 ?_
      refine v_imul (pc := 101) C dX1_consensus_101 ?_
      refine v_aload_n (pc := 102) (j := 0) C dX1_consensus_102 rfl rfl ?_
      obtain ⟨x2, ex2, hf⟩ := oB hf
      refine v_getF (pc := 103) C lk_X1_248 (gR_eq ex2) dX1_consensus_103 ?_
      obtain ⟨b3, eb3, hf⟩ := oB hf
      obtain ⟨rb3, _, kb3⟩ := aIs_eq eb3
      obtain ⟨x4, ex4, hf⟩ := oB hf
      refine v_call (pc := 106) (d_V (pc := 106) C (As := []) (rest := [.int ((2 : Int32) * x1)]) rb3 kb3 nt_15 q375 yi_J2_size_java_util_ArrayList yk_J2_size rfl (by decide) (by decide) (Nat.le_trans (aw_i aw_0) (by decide)) rfl (mJ2_size C.st ex4) dX1_consensus_106) ?_
      refine v_icmp_le (pc := 109) (tgt := 121) C dX1_consensus_109 rfl (fun hc => ?_) (fun hc => ?_)
      · rw [if_pos hc] at hf
        exact V.sub [0, 1, 2, 3] rfl (vX1_consensus_p121 X ih hf)
      · rw [if_neg hc] at hf
        refine v_lload (pc := 112) (j := 2) C dX1_consensus_112 rfl ?_
        refine v_lconst (pc := 114) (v := (1 : Int64)) C dX1_consensus_114 rfl ?_
        refine v_iload (pc := 115) (j := 3) C dX1_consensus_115 rfl ?_
        refine v_lshl (pc := 117) C dX1_consensus_117 ?_
        refine v_lor (pc := 118) C dX1_consensus_118 ?_
        obtain ⟨x6, ex6, hf⟩ := oB hf
        refine vst (Option.some.inj ex6) (fun z => .long z :: []) ?_
        refine v_lstore (pc := 119) (lv' := [(4, true, .long x6), (2, false, va_rf a2), (3, false, va_rf a3), (6, false, .int a6)]) C dX1_consensus_119 (by decide) rfl ?_
        exact V.sub [1, 2, 0, 3] rfl (vX1_consensus_p121 X ih hf)
def fX1_consensus_p83 (D : aD) (h : aH) (a2 : Option Nat) (a3 : Option Nat) : Option ((Nat ⊕ Int64) × aH) :=
  fX1_consensus_p89 D FU h a2 a3 (0 : Int64) (0 : Int32)
theorem vX1_consensus_p83 {h : aH} {a2 : Option Nat} {a3 : Option Nat} {q : Nat ⊕ Int64} {g : aH} (X : aX p l R s m meth c D n0 s0 yX1_consensus cX1_consensus 8 134 8 (some .long) h0) (hf : fX1_consensus_p83 D h a2 a3 = some (q, g)) : V p l e R s m args below meth c D n0 s0 (aEnd D below args s h0 (wJ q, g)) h 83 [(2, false, va_rf a2), (3, false, va_rf a3)] [] := by
  have C := X.1
  unfold fX1_consensus_p83 at hf
  refine v_lconst (pc := 83) (v := (0 : Int64)) C dX1_consensus_83 rfl ?_
  refine v_lstore (pc := 84) (lv' := [(4, true, .long (0 : Int64)), (2, false, va_rf a2), (3, false, va_rf a3)]) C dX1_consensus_84 (by decide) rfl ?_
  refine v_iconst (pc := 86) (v := (0 : Int32)) C dX1_consensus_86 rfl ?_
  refine v_istore (pc := 87) (lv' := [(6, false, .int (0 : Int32)), (4, true, .long (0 : Int64)), (2, false, va_rf a2), (3, false, va_rf a3)]) C dX1_consensus_87 (by decide) rfl ?_
  exact V.sub [2, 3, 1, 0] rfl (vX1_consensus_p89 X _ _ _ _ _ _ _ _ hf)
def fX1_consensus_p14 (D : aD) : Nat → aH → (Option Nat) → (Option Nat) → Int32 → Option ((Nat ⊕ Int64) × aH)
  | 0, _, _, _, _ => none
  | n + 1, h, a2, a3, a4 =>
  (gR h 4 3 a2).bind fun x1 =>
  (aIs h 15 x1).bind fun _ =>
  (fJ2_size D h x1).bind fun x3 =>
  if x3 ≤ a4 then
  (fX1_consensus_p83 D h a2 a3)
  else
  ((gR h 4 3 a2).bind fun x5 =>
  (aIs h 15 x5).bind fun _ =>
  (fJ2_get D h x5 a4).bind fun x7 =>
  (aCast h [5] x7).bind fun _ =>
  (aIs h 5 x7).bind fun _ =>
  bnd2 (fX6_aligned D h x7) fun x11 h12 =>
  fX1_consensus_p46 D (fX1_consensus_p14 D n) FU h12 a2 a3 a4 x11 (0 : Int32))
theorem vX1_consensus_p14 (X : aX p l R s m meth c D n0 s0 yX1_consensus cX1_consensus 8 134 8 (some .long) h0) : ∀ (n : Nat) (h : aH) (a2 : Option Nat) (a3 : Option Nat) (a4 : Int32) (q : Nat ⊕ Int64) (g : aH), fX1_consensus_p14 D n h a2 a3 a4 = some (q, g) → V p l e R s m args below meth c D n0 s0 (aEnd D below args s h0 (wJ q, g)) h 14 [(2, false, va_rf a2), (3, false, va_rf a3), (4, false, .int a4)] [] := by
  have C := X.1
  intro n
  induction n with
  | zero =>
    intro _ _ _ _ _ _ hf
    rw [fX1_consensus_p14] at hf
    cases hf
  | succ n ih =>
    intro h a2 a3 a4 q g hf
    rw [fX1_consensus_p14] at hf
    refine v_iload (pc := 14) (j := 2) C dX1_consensus_14 rfl ?_
    refine v_aload_n (pc := 16) (j := 0) C dX1_consensus_16 rfl rfl ?_
    obtain ⟨x1, ex1, hf⟩ := oB hf
    refine v_getF (pc := 17) C lk_X1_248 (gR_eq ex1) dX1_consensus_17 ?_
    obtain ⟨b2, eb2, hf⟩ := oB hf
    obtain ⟨rb2, _, kb2⟩ := aIs_eq eb2
    obtain ⟨x3, ex3, hf⟩ := oB hf
    refine v_call (pc := 20) (d_V (pc := 20) C (As := []) (rest := [.int a4]) rb2 kb2 nt_15 q375 yi_J2_size_java_util_ArrayList yk_J2_size rfl (by decide) (by decide) (Nat.le_trans (aw_i aw_0) (by decide)) rfl (mJ2_size C.st ex3) dX1_consensus_20) ?_
    refine v_icmp_ge (pc := 23) (tgt := 83) C dX1_consensus_23 rfl (fun hc => ?_) (fun hc => ?_)
    · rw [if_pos hc] at hf
      exact V.sub [0, 1] rfl (vX1_consensus_p83 X hf)
    · rw [if_neg hc] at hf
      refine v_aload_n (pc := 26) (j := 0) C dX1_consensus_26 rfl rfl ?_
      obtain ⟨x5, ex5, hf⟩ := oB hf
      refine v_getF (pc := 27) C lk_X1_248 (gR_eq ex5) dX1_consensus_27 ?_
      refine v_iload (pc := 30) (j := 2) C dX1_consensus_30 rfl ?_
      obtain ⟨b6, eb6, hf⟩ := oB hf
      obtain ⟨rb6, _, kb6⟩ := aIs_eq eb6
      obtain ⟨x7, ex7, hf⟩ := oB hf
      refine v_call (pc := 32) (d_V (pc := 32) C (As := [.int a4]) (rest := []) rb6 kb6 nt_15 q379 yi_J2_get_java_util_ArrayList yk_J2_get rfl (by decide) (by decide) (Nat.le_trans aw_0 (by decide)) rfl (mJ2_get C.st ex7) dX1_consensus_32) ?_
      obtain ⟨_, e9, hf⟩ := oB hf
      refine v_cast (pc := 35) C q1916 ct_FigureSurvey_Tracing e9 dX1_consensus_35 ?_
      obtain ⟨b10, eb10, hf⟩ := oB hf
      obtain ⟨rb10, _, kb10⟩ := aIs_eq eb10
      obtain ⟨x11, h12, ex11, hf⟩ := bnd2_eq hf
      refine v_call (pc := 38) (d_V (pc := 38) C (As := []) (rest := []) rb10 kb10 nt_5 q1966 yi_X6_aligned_FigureSurvey_Tracing yk_X6_aligned rfl (by decide) (by decide) (Nat.le_trans aw_0 (by decide)) rfl (mX6_aligned C.st ex11) dX1_consensus_38) ?_
      refine v_lstore (pc := 41) (lv' := [(5, true, .long x11), (2, false, va_rf a2), (3, false, va_rf a3), (4, false, .int a4)]) C dX1_consensus_41 (by decide) rfl ?_
      refine v_iconst (pc := 43) (v := (0 : Int32)) C dX1_consensus_43 rfl ?_
      refine v_istore (pc := 44) (lv' := [(7, false, .int (0 : Int32)), (5, true, .long x11), (2, false, va_rf a2), (3, false, va_rf a3), (4, false, .int a4)]) C dX1_consensus_44 (by decide) rfl ?_
      exact V.sub [2, 3, 4, 1, 0] rfl (vX1_consensus_p46 X ih _ _ _ _ _ _ _ _ _ hf)
def fX1_consensus (D : aD) (h : aH) (a0 : Option Nat) (a1 : Int32) : Option ((Nat ⊕ Int64) × aH) :=
  (aIs h 0 a0).bind fun _ =>
  bndT (fX1_figure D h a0 a1) fun x2 h3 =>
  (aMkA D h3 100 (64 : Int32) (.int 0)).bind fun h4 =>
  fX1_consensus_p14 D FU h4 x2 (some h3.1) (0 : Int32)
theorem vX1_consensus {h : aH} {a0 : Option Nat} {a1 : Int32} {q : Nat ⊕ Int64} {g : aH} (X : aX p l R s m meth c D n0 s0 yX1_consensus cX1_consensus 8 134 8 (some .long) h0) (hf : fX1_consensus D h a0 a1 = some (q, g)) : V p l e R s m args below meth c D n0 s0 (aEnd D below args s h0 (wJ q, g)) h 0 [(0, false, va_rf a0), (1, false, .int a1)] [] := by
  have C := X.1
  unfold fX1_consensus at hf
  refine v_aload_n (pc := 0) (j := 0) C dX1_consensus_0 rfl rfl ?_
  refine v_iload_n (pc := 1) (j := 1) C dX1_consensus_1 rfl rfl ?_
  obtain ⟨b1, eb1, hf⟩ := oB hf
  obtain ⟨rb1, _, kb1⟩ := aIs_eq eb1
  rcases bndT_eq hf with ⟨_, _, ex2, qx2⟩ | ⟨x2, h3, ex2, hf⟩
  · cases qx2; exact v_ofDx (pc := 2) C X.2.1 X.2.2.1 rfl X.2.2.2.2.1 (d_V (pc := 2) C (As := [.int a1]) (rest := []) rb1 kb1 nt_0 q1849 yi_X1_figure_FigureSurvey yk_X1_figure rfl (by decide) (by decide) (Nat.le_trans aw_0 (by decide)) rfl (mX1_figure C.st ex2) dX1_consensus_2)
  refine v_call (pc := 2) (d_V (pc := 2) C (As := [.int a1]) (rest := []) rb1 kb1 nt_0 q1849 yi_X1_figure_FigureSurvey yk_X1_figure rfl (by decide) (by decide) (Nat.le_trans aw_0 (by decide)) rfl (mX1_figure C.st ex2) dX1_consensus_2) ?_
  refine v_astore_n (pc := 5) (lv' := [(2, false, va_rf x2), (0, false, va_rf a0), (1, false, .int a1)]) C dX1_consensus_5 rfl (by decide) rfl ?_
  refine v_bipush (pc := 6) (v := (64 : Int32)) C dX1_consensus_6 rfl ?_
  obtain ⟨h4, eh4, hf⟩ := oB hf
  refine v_newarray (pc := 8) (t := 100) (v := .int 0) C q169 rfl rfl (by decide) (by decide) rfl eh4 dX1_consensus_8 ?_
  refine v_astore_n (pc := 10) (lv' := [(3, false, va_rf (some h3.1)), (2, false, va_rf x2), (0, false, va_rf a0), (1, false, .int a1)]) C dX1_consensus_10 rfl (by decide) rfl ?_
  refine v_iconst (pc := 11) (v := (0 : Int32)) C dX1_consensus_11 rfl ?_
  refine v_istore (pc := 12) (lv' := [(4, false, .int (0 : Int32)), (3, false, va_rf (some h3.1)), (2, false, va_rf x2), (0, false, va_rf a0), (1, false, .int a1)]) C dX1_consensus_12 (by decide) rfl ?_
  exact V.sub [2, 1, 0] rfl (vX1_consensus_p14 X _ _ _ _ _ _ _ hf)
theorem mX1_consensus {l : Launch} {D : aD} {h : aH} {a0 : Option Nat} {a1 : Int32} {q : Nat ⊕ Int64} {g : aH} (hst : l.stackTraces = false) (hf : fX1_consensus D h a0 a1 = some (q, g)) : aM l D yX1_consensus cX1_consensus 8 (some .long) 8 134 [va_rf a0, .int a1] h (wJ q, g) :=
  aM.ofX [(false, va_rf a0), (false, .int a1)] rfl (ap_r (ap_c rfl ap_0)) (by decide +kernel) hst (al_of (aw_r (aw_i aw_0)) (by decide)) fun p e s m args below meth c X => V.sub (lv' := [(0, false, va_rf a0), (1, false, .int a1)]) [0, 1] rfl (vX1_consensus X hf)
def fX1_clearMarks (D : aD) (h : aH) (a0 : Option Nat) (a1 : Int32) : Option ((Nat ⊕ Int32) × aH) :=
  (aIs h 0 a0).bind fun _ =>
  bndT (fX1_figure D h a0 a1) fun x2 h3 =>
  (gI h3 4 5 x2).bind fun x4 =>
  (pF D h3 4 5 x2 (.int (0 : Int32))).bind fun h5 =>
  some (.inr x4, h5)
theorem vX1_clearMarks {h : aH} {a0 : Option Nat} {a1 : Int32} {q : Nat ⊕ Int32} {g : aH} (X : aX p l R s m meth c D n0 s0 yX1_clearMarks cX1_clearMarks 8 124 4 (some .int) h0) (hf : fX1_clearMarks D h a0 a1 = some (q, g)) : V p l e R s m args below meth c D n0 s0 (aEnd D below args s h0 (wI q, g)) h 0 [(0, false, va_rf a0), (1, false, .int a1)] [] := by
  have C := X.1
  unfold fX1_clearMarks at hf
  refine v_aload_n (pc := 0) (j := 0) C dX1_clearMarks_0 rfl rfl ?_
  refine v_iload_n (pc := 1) (j := 1) C dX1_clearMarks_1 rfl rfl ?_
  obtain ⟨b1, eb1, hf⟩ := oB hf
  obtain ⟨rb1, _, kb1⟩ := aIs_eq eb1
  rcases bndT_eq hf with ⟨_, _, ex2, qx2⟩ | ⟨x2, h3, ex2, hf⟩
  · cases qx2; exact v_ofDx (pc := 2) C X.2.1 X.2.2.1 rfl X.2.2.2.2.1 (d_V (pc := 2) C (As := [.int a1]) (rest := []) rb1 kb1 nt_0 q1849 yi_X1_figure_FigureSurvey yk_X1_figure rfl (by decide) (by decide) (Nat.le_trans aw_0 (by decide)) rfl (mX1_figure C.st ex2) dX1_clearMarks_2)
  refine v_call (pc := 2) (d_V (pc := 2) C (As := [.int a1]) (rest := []) rb1 kb1 nt_0 q1849 yi_X1_figure_FigureSurvey yk_X1_figure rfl (by decide) (by decide) (Nat.le_trans aw_0 (by decide)) rfl (mX1_figure C.st ex2) dX1_clearMarks_2) ?_
  refine v_astore_n (pc := 5) (lv' := [(2, false, va_rf x2), (0, false, va_rf a0), (1, false, .int a1)]) C dX1_clearMarks_5 rfl (by decide) rfl ?_
  refine v_aload_n (pc := 6) (j := 0) C dX1_clearMarks_6 rfl rfl ?_
  obtain ⟨x4, ex4, hf⟩ := oB hf
  refine v_getF (pc := 7) C lk_X1_277 (gI_eq ex4) dX1_clearMarks_7 ?_
  refine v_istore_n (pc := 10) (lv' := [(3, false, .int x4), (2, false, va_rf x2), (0, false, va_rf a0), (1, false, .int a1)]) C dX1_clearMarks_10 rfl (by decide) rfl ?_
  refine v_aload_n (pc := 11) (j := 1) C dX1_clearMarks_11 rfl rfl ?_
  refine v_iconst (pc := 12) (v := (0 : Int32)) C dX1_clearMarks_12 rfl ?_
  obtain ⟨h5, eh5, hf⟩ := oB hf
  refine v_putF (pc := 13) C lk_X1_277 tyX5 tyX5_ok nmX5 (tyX5_ok 5 (by decide)) rfl rfl eh5 dX1_clearMarks_13 ?_
  refine v_iload_n (pc := 16) (j := 0) C dX1_clearMarks_16 rfl rfl ?_
  cases hf
  exact v_ireturn (pc := 17) C X.2.1 X.2.2.1 X.2.2.2.1 rfl dX1_clearMarks_17
theorem mX1_clearMarks {l : Launch} {D : aD} {h : aH} {a0 : Option Nat} {a1 : Int32} {q : Nat ⊕ Int32} {g : aH} (hst : l.stackTraces = false) (hf : fX1_clearMarks D h a0 a1 = some (q, g)) : aM l D yX1_clearMarks cX1_clearMarks 4 (some .int) 8 124 [va_rf a0, .int a1] h (wI q, g) :=
  aM.ofX [(false, va_rf a0), (false, .int a1)] rfl (ap_r (ap_c rfl ap_0)) (by decide +kernel) hst (al_of (aw_r (aw_i aw_0)) (by decide)) fun p e s m args below meth c X => V.sub (lv' := [(0, false, va_rf a0), (1, false, .int a1)]) [0, 1] rfl (vX1_clearMarks X hf)
def fX1_setWeapon (D : aD) (h : aH) (a0 : Option Nat) (a1 : Int32) (a2 : Int32) : Option ((Nat ⊕ Int32) × aH) :=
  bndT (fX1_in D h a1 (0 : Int32) (4 : Int32)) fun x2 h3 =>
  bndT (fX1_in D h3 a2 (0 : Int32) (30000 : Int32)) fun x5 h6 =>
  (gR h6 0 7 a0).bind fun x7 =>
  (eI h6 x7 a1).bind fun x8 =>
  (gR h6 0 7 a0).bind fun x9 =>
  (sF D h6 100 x9 a1 (.int a2)).bind fun h10 =>
  some (.inr x8, h10)
theorem vX1_setWeapon {h : aH} {a0 : Option Nat} {a1 : Int32} {a2 : Int32} {q : Nat ⊕ Int32} {g : aH} (X : aX p l R s m meth c D n0 s0 yX1_setWeapon cX1_setWeapon 7 104 4 (some .int) h0) (hf : fX1_setWeapon D h a0 a1 a2 = some (q, g)) : V p l e R s m args below meth c D n0 s0 (aEnd D below args s h0 (wI q, g)) h 0 [(0, false, va_rf a0), (1, false, .int a1), (2, false, .int a2)] [] := by
  have C := X.1
  unfold fX1_setWeapon at hf
  refine v_iload_n (pc := 0) (j := 1) C dX1_setWeapon_0 rfl rfl ?_
  refine v_iconst (pc := 1) (v := (0 : Int32)) C dX1_setWeapon_1 rfl ?_
  refine v_iconst (pc := 2) (v := (4 : Int32)) C dX1_setWeapon_2 rfl ?_
  rcases bndT_eq hf with ⟨_, _, ex2, qx2⟩ | ⟨x2, h3, ex2, hf⟩
  · cases qx2; exact v_ofDx (pc := 3) C X.2.1 X.2.2.1 rfl X.2.2.2.2.1 (d_S (pc := 3) C (As := [.int a1, .int (0 : Int32), .int (4 : Int32)]) (rest := []) q1578 q1579 yk_X1_in rfl (by decide) (by decide) (Nat.le_trans aw_0 (by decide)) rfl (mX1_in C.st ex2) dX1_setWeapon_3)
  refine v_call (pc := 3) (d_S (pc := 3) C (As := [.int a1, .int (0 : Int32), .int (4 : Int32)]) (rest := []) q1578 q1579 yk_X1_in rfl (by decide) (by decide) (Nat.le_trans aw_0 (by decide)) rfl (mX1_in C.st ex2) dX1_setWeapon_3) ?_
  refine v_pop (pc := 6) C dX1_setWeapon_6 rfl ?_
  refine v_iload_n (pc := 7) (j := 2) C dX1_setWeapon_7 rfl rfl ?_
  refine v_iconst (pc := 8) (v := (0 : Int32)) C dX1_setWeapon_8 rfl ?_
  refine v_sipush (pc := 9) (v := (30000 : Int32)) C dX1_setWeapon_9 rfl ?_
  rcases bndT_eq hf with ⟨_, _, ex5, qx5⟩ | ⟨x5, h6, ex5, hf⟩
  · cases qx5; exact v_ofDx (pc := 12) C X.2.1 X.2.2.1 rfl X.2.2.2.2.1 (d_S (pc := 12) C (As := [.int a2, .int (0 : Int32), .int (30000 : Int32)]) (rest := []) q1578 q1579 yk_X1_in rfl (by decide) (by decide) (Nat.le_trans aw_0 (by decide)) rfl (mX1_in C.st ex5) dX1_setWeapon_12)
  refine v_call (pc := 12) (d_S (pc := 12) C (As := [.int a2, .int (0 : Int32), .int (30000 : Int32)]) (rest := []) q1578 q1579 yk_X1_in rfl (by decide) (by decide) (Nat.le_trans aw_0 (by decide)) rfl (mX1_in C.st ex5) dX1_setWeapon_12) ?_
  refine v_pop (pc := 15) C dX1_setWeapon_15 rfl ?_
  refine v_aload_n (pc := 16) (j := 0) C dX1_setWeapon_16 rfl rfl ?_
  obtain ⟨x7, ex7, hf⟩ := oB hf
  refine v_getF (pc := 17) C lk_X1_69 (gR_eq ex7) dX1_setWeapon_17 ?_
  refine v_iload_n (pc := 20) (j := 1) C dX1_setWeapon_20 rfl rfl ?_
  obtain ⟨x8, ex8, hf⟩ := oB hf
  refine v_iaload (pc := 21) C ex8 dX1_setWeapon_21 ?_
  refine v_istore_n (pc := 22) (lv' := [(3, false, .int x8), (0, false, va_rf a0), (1, false, .int a1), (2, false, .int a2)]) C dX1_setWeapon_22 rfl (by decide) rfl ?_
  refine v_aload_n (pc := 23) (j := 1) C dX1_setWeapon_23 rfl rfl ?_
  obtain ⟨x9, ex9, hf⟩ := oB hf
  refine v_getF (pc := 24) C lk_X1_69 (gR_eq ex9) dX1_setWeapon_24 ?_
  refine v_iload_n (pc := 27) (j := 2) C dX1_setWeapon_27 rfl rfl ?_
  refine v_iload_n (pc := 28) (j := 3) C dX1_setWeapon_28 rfl rfl ?_
  obtain ⟨h10, eh10, hf⟩ := oB hf
  refine v_iastore (pc := 29) C eh10 dX1_setWeapon_29 ?_
  refine v_iload_n (pc := 30) (j := 0) C dX1_setWeapon_30 rfl rfl ?_
  cases hf
  exact v_ireturn (pc := 31) C X.2.1 X.2.2.1 X.2.2.2.1 rfl dX1_setWeapon_31
theorem mX1_setWeapon {l : Launch} {D : aD} {h : aH} {a0 : Option Nat} {a1 : Int32} {a2 : Int32} {q : Nat ⊕ Int32} {g : aH} (hst : l.stackTraces = false) (hf : fX1_setWeapon D h a0 a1 a2 = some (q, g)) : aM l D yX1_setWeapon cX1_setWeapon 4 (some .int) 7 104 [va_rf a0, .int a1, .int a2] h (wI q, g) :=
  aM.ofX [(false, va_rf a0), (false, .int a1), (false, .int a2)] rfl (ap_r (ap_c rfl (ap_c rfl ap_0))) (by decide +kernel) hst (al_of (aw_r (aw_i (aw_i aw_0))) (by decide)) fun p e s m args below meth c X => V.sub (lv' := [(0, false, va_rf a0), (1, false, .int a1), (2, false, .int a2)]) [0, 1, 2] rfl (vX1_setWeapon X hf)
def fX1_setAnimal (D : aD) (h : aH) (a0 : Option Nat) (a1 : Int32) (a2 : Int32) : Option ((Nat ⊕ Int32) × aH) :=
  bndT (fX1_in D h a1 (0 : Int32) (4 : Int32)) fun x2 h3 =>
  bndT (fX1_in D h3 a2 (0 : Int32) (30000 : Int32)) fun x5 h6 =>
  (gR h6 0 8 a0).bind fun x7 =>
  (eI h6 x7 a1).bind fun x8 =>
  (gR h6 0 8 a0).bind fun x9 =>
  (sF D h6 100 x9 a1 (.int a2)).bind fun h10 =>
  some (.inr x8, h10)
theorem vX1_setAnimal {h : aH} {a0 : Option Nat} {a1 : Int32} {a2 : Int32} {q : Nat ⊕ Int32} {g : aH} (X : aX p l R s m meth c D n0 s0 yX1_setAnimal cX1_setAnimal 7 104 4 (some .int) h0) (hf : fX1_setAnimal D h a0 a1 a2 = some (q, g)) : V p l e R s m args below meth c D n0 s0 (aEnd D below args s h0 (wI q, g)) h 0 [(0, false, va_rf a0), (1, false, .int a1), (2, false, .int a2)] [] := by
  have C := X.1
  unfold fX1_setAnimal at hf
  refine v_iload_n (pc := 0) (j := 1) C dX1_setAnimal_0 rfl rfl ?_
  refine v_iconst (pc := 1) (v := (0 : Int32)) C dX1_setAnimal_1 rfl ?_
  refine v_iconst (pc := 2) (v := (4 : Int32)) C dX1_setAnimal_2 rfl ?_
  rcases bndT_eq hf with ⟨_, _, ex2, qx2⟩ | ⟨x2, h3, ex2, hf⟩
  · cases qx2; exact v_ofDx (pc := 3) C X.2.1 X.2.2.1 rfl X.2.2.2.2.1 (d_S (pc := 3) C (As := [.int a1, .int (0 : Int32), .int (4 : Int32)]) (rest := []) q1578 q1579 yk_X1_in rfl (by decide) (by decide) (Nat.le_trans aw_0 (by decide)) rfl (mX1_in C.st ex2) dX1_setAnimal_3)
  refine v_call (pc := 3) (d_S (pc := 3) C (As := [.int a1, .int (0 : Int32), .int (4 : Int32)]) (rest := []) q1578 q1579 yk_X1_in rfl (by decide) (by decide) (Nat.le_trans aw_0 (by decide)) rfl (mX1_in C.st ex2) dX1_setAnimal_3) ?_
  refine v_pop (pc := 6) C dX1_setAnimal_6 rfl ?_
  refine v_iload_n (pc := 7) (j := 2) C dX1_setAnimal_7 rfl rfl ?_
  refine v_iconst (pc := 8) (v := (0 : Int32)) C dX1_setAnimal_8 rfl ?_
  refine v_sipush (pc := 9) (v := (30000 : Int32)) C dX1_setAnimal_9 rfl ?_
  rcases bndT_eq hf with ⟨_, _, ex5, qx5⟩ | ⟨x5, h6, ex5, hf⟩
  · cases qx5; exact v_ofDx (pc := 12) C X.2.1 X.2.2.1 rfl X.2.2.2.2.1 (d_S (pc := 12) C (As := [.int a2, .int (0 : Int32), .int (30000 : Int32)]) (rest := []) q1578 q1579 yk_X1_in rfl (by decide) (by decide) (Nat.le_trans aw_0 (by decide)) rfl (mX1_in C.st ex5) dX1_setAnimal_12)
  refine v_call (pc := 12) (d_S (pc := 12) C (As := [.int a2, .int (0 : Int32), .int (30000 : Int32)]) (rest := []) q1578 q1579 yk_X1_in rfl (by decide) (by decide) (Nat.le_trans aw_0 (by decide)) rfl (mX1_in C.st ex5) dX1_setAnimal_12) ?_
  refine v_pop (pc := 15) C dX1_setAnimal_15 rfl ?_
  refine v_aload_n (pc := 16) (j := 0) C dX1_setAnimal_16 rfl rfl ?_
  obtain ⟨x7, ex7, hf⟩ := oB hf
  refine v_getF (pc := 17) C lk_X1_72 (gR_eq ex7) dX1_setAnimal_17 ?_
  refine v_iload_n (pc := 20) (j := 1) C dX1_setAnimal_20 rfl rfl ?_
  obtain ⟨x8, ex8, hf⟩ := oB hf
  refine v_iaload (pc := 21) C ex8 dX1_setAnimal_21 ?_
  refine v_istore_n (pc := 22) (lv' := [(3, false, .int x8), (0, false, va_rf a0), (1, false, .int a1), (2, false, .int a2)]) C dX1_setAnimal_22 rfl (by decide) rfl ?_
  refine v_aload_n (pc := 23) (j := 1) C dX1_setAnimal_23 rfl rfl ?_
  obtain ⟨x9, ex9, hf⟩ := oB hf
  refine v_getF (pc := 24) C lk_X1_72 (gR_eq ex9) dX1_setAnimal_24 ?_
  refine v_iload_n (pc := 27) (j := 2) C dX1_setAnimal_27 rfl rfl ?_
  refine v_iload_n (pc := 28) (j := 3) C dX1_setAnimal_28 rfl rfl ?_
  obtain ⟨h10, eh10, hf⟩ := oB hf
  refine v_iastore (pc := 29) C eh10 dX1_setAnimal_29 ?_
  refine v_iload_n (pc := 30) (j := 0) C dX1_setAnimal_30 rfl rfl ?_
  cases hf
  exact v_ireturn (pc := 31) C X.2.1 X.2.2.1 X.2.2.2.1 rfl dX1_setAnimal_31
theorem mX1_setAnimal {l : Launch} {D : aD} {h : aH} {a0 : Option Nat} {a1 : Int32} {a2 : Int32} {q : Nat ⊕ Int32} {g : aH} (hst : l.stackTraces = false) (hf : fX1_setAnimal D h a0 a1 a2 = some (q, g)) : aM l D yX1_setAnimal cX1_setAnimal 4 (some .int) 7 104 [va_rf a0, .int a1, .int a2] h (wI q, g) :=
  aM.ofX [(false, va_rf a0), (false, .int a1), (false, .int a2)] rfl (ap_r (ap_c rfl (ap_c rfl ap_0))) (by decide +kernel) hst (al_of (aw_r (aw_i (aw_i aw_0))) (by decide)) fun p e s m args below meth c X => V.sub (lv' := [(0, false, va_rf a0), (1, false, .int a1), (2, false, .int a2)]) [0, 1, 2] rfl (vX1_setAnimal X hf)
def fX1_findingsOf_p16 (D : aD) : Nat → aH → (Option Nat) → Int32 → Int32 → (Option Nat) → Option (Int32 × aH)
  | 0, _, _, _, _, _ => none
  | n + 1, h, a1, a2, a3, a4 =>
  (aIs h 20 a4).bind fun _ =>
  (fJ25_hasNext D h a4).bind fun x2 =>
  if x2 = 0 then
  (some (a3, h))
  else
  ((aIs h 20 a4).bind fun _ =>
  bnd2 (fJ28_next D h a4) fun x5 h6 =>
  (aCast h6 [7] x5).bind fun _ =>
  (aIs h6 7 x5).bind fun _ =>
  (fX8_isOf D h6 x5 a1).bind fun x9 =>
  if x9 = 0 then
  (fX1_findingsOf_p16 D n h6 a1 a2 a3 a4)
  else
  ((gI h6 7 1 x5).bind fun x11 =>
  (fJ11_min D h6 x11 (2 : Int32)).bind fun x13 =>
  fX1_findingsOf_p16 D n h6 a1 a2 (if x13 = a2 then (a3 + 1) else a3) a4))
theorem vX1_findingsOf_p16 (X : aX p l R s m meth c D n0 s0 yX1_findingsOf cX1_findingsOf 4 76 6 (some .int) h0) : ∀ (n : Nat) (h : aH) (a1 : Option Nat) (a2 : Int32) (a3 : Int32) (a4 : Option Nat) (q : Int32) (g : aH), fX1_findingsOf_p16 D n h a1 a2 a3 a4 = some (q, g) → V p l e R s m args below meth c D n0 s0 (aEnd D below args s h0 (.inr (some (.int q)), g)) h 16 [(1, false, va_rf a1), (2, false, .int a2), (3, false, .int a3), (4, false, va_rf a4)] [] := by
  have C := X.1
  intro n
  induction n with
  | zero =>
    intro _ _ _ _ _ _ _ hf
    rw [fX1_findingsOf_p16] at hf
    cases hf
  | succ n ih =>
    intro h a1 a2 a3 a4 q g hf
    rw [fX1_findingsOf_p16] at hf
    refine v_aload (pc := 16) (j := 3) C dX1_findingsOf_16 rfl ?_
    obtain ⟨b1, eb1, hf⟩ := oB hf
    obtain ⟨rb1, _, kb1⟩ := aIs_eq eb1
    obtain ⟨x2, ex2, hf⟩ := oB hf
    refine v_call (pc := 18) (d_F (pc := 18) C (As := []) (rest := []) rb1 kb1 nt_20 q1563 q1084 ⟨q1083, ⟨by decide +kernel, by decide +kernel⟩⟩ q1111 q1104 q1105 q1112 q1110 (by decide +kernel) yk_J25_hasNext rfl (by decide) (by decide) (Nat.le_trans aw_0 (by decide)) rfl (mJ25_hasNext C.st ex2) dX1_findingsOf_18) ?_
    refine v_if_eq (pc := 23) (tgt := 66) C dX1_findingsOf_23 rfl (fun hc => ?_) (fun hc => ?_)
    · rw [if_pos hc] at hf
      refine v_iload_n (pc := 66) (j := 2) C dX1_findingsOf_66 rfl rfl ?_
      cases hf
      exact v_ireturn (pc := 67) C X.2.1 X.2.2.1 X.2.2.2.1 rfl dX1_findingsOf_67
    · rw [if_neg hc] at hf
      refine v_aload (pc := 26) (j := 3) C dX1_findingsOf_26 rfl ?_
      obtain ⟨b4, eb4, hf⟩ := oB hf
      obtain ⟨rb4, _, kb4⟩ := aIs_eq eb4
      obtain ⟨x5, h6, ex5, hf⟩ := bnd2_eq hf
      refine v_call (pc := 28) (d_F (pc := 28) C (As := []) (rest := []) rb4 kb4 nt_20 q1565 q1116 ⟨q1115, ⟨by decide +kernel, by decide +kernel⟩⟩ q1171 q1173 q1174 q1172 q1110 (by decide +kernel) yk_J28_next rfl (by decide) (by decide) (Nat.le_trans aw_0 (by decide)) rfl (mJ28_next C.st ex5) dX1_findingsOf_28) ?_
      obtain ⟨_, e7, hf⟩ := oB hf
      refine v_cast (pc := 33) C q1566 ct_FigureSurvey_Finding e7 dX1_findingsOf_33 ?_
      refine v_astore (pc := 36) (lv' := [(5, false, va_rf x5), (1, false, va_rf a1), (2, false, .int a2), (3, false, .int a3), (4, false, va_rf a4)]) C dX1_findingsOf_36 (by decide) rfl ?_
      refine v_aload (pc := 38) (j := 0) C dX1_findingsOf_38 rfl ?_
      refine v_aload_n (pc := 40) (j := 1) C dX1_findingsOf_40 rfl rfl ?_
      obtain ⟨b8, eb8, hf⟩ := oB hf
      obtain ⟨rb8, _, kb8⟩ := aIs_eq eb8
      obtain ⟨x9, ex9, hf⟩ := oB hf
      refine v_call (pc := 41) (d_V (pc := 41) C (As := [va_rf a1]) (rest := []) rb8 kb8 nt_7 q2018 yi_X8_isOf_FigureSurvey_Finding yk_X8_isOf rfl (by decide) (by decide) (Nat.le_trans aw_0 (by decide)) rfl (mX8_isOf C.st ex9) dX1_findingsOf_41) ?_
      refine v_if_eq (pc := 44) (tgt := 63) C dX1_findingsOf_44 rfl (fun hc => ?_) (fun hc => ?_)
      · rw [if_pos hc] at hf
        refine v_goto (pc := 63) (tgt := 16) C dX1_findingsOf_63 rfl ?_
        exact V.sub [1, 2, 3, 4] rfl (ih _ _ _ _ _ _ _ hf)
      · rw [if_neg hc] at hf
        refine v_aload (pc := 47) (j := 0) C dX1_findingsOf_47 rfl ?_
        obtain ⟨x11, ex11, hf⟩ := oB hf
        refine v_getF (pc := 49) C lk_X1_306 (gI_eq ex11) dX1_findingsOf_49 ?_
        refine v_iconst (pc := 52) (v := (2 : Int32)) C dX1_findingsOf_52 rfl ?_
        obtain ⟨x13, ex13, hf⟩ := oB hf
        refine v_call (pc := 53) (d_S (pc := 53) C (As := [.int x11, .int (2 : Int32)]) (rest := []) q1256 q477 yk_J11_min rfl (by decide) (by decide) (Nat.le_trans aw_0 (by decide)) rfl (mJ11_min C.st ex13) dX1_findingsOf_53) ?_
        refine v_iload_n (pc := 56) (j := 2) C dX1_findingsOf_56 rfl rfl ?_
        refine v_icmp_ne (pc := 57) (tgt := 63) C dX1_findingsOf_57 rfl (fun hc => ?_) (fun hc => ?_)
        · simp only [if_neg hc] at hf
          refine v_goto (pc := 63) (tgt := 16) C dX1_findingsOf_63 rfl ?_
          exact V.sub [1, 2, 3, 4] rfl (ih _ _ _ _ _ _ _ hf)
        · simp only [if_pos (Decidable.of_not_not hc)] at hf
          refine v_iinc (pc := 60) (j := 3) (v := (a3 + 1)) (lv' := [(3, false, .int (a3 + 1)), (5, false, va_rf x5), (1, false, va_rf a1), (2, false, .int a2), (4, false, va_rf a4)]) C dX1_findingsOf_60 rfl rfl (by decide) rfl ?_
          refine v_goto (pc := 63) (tgt := 16) C dX1_findingsOf_63 rfl ?_
          exact V.sub [2, 3, 0, 4] rfl (ih _ _ _ _ _ _ _ hf)
def fX1_findingsOf (D : aD) (h : aH) (a0 : Option Nat) (a1 : Option Nat) (a2 : Int32) : Option (Int32 × aH) :=
  (gR h 0 5 a0).bind fun x1 =>
  (aIs h 16 x1).bind fun _ =>
  bnd2 (fJ4_values D h x1) fun x3 h4 =>
  (aIs h4 19 x3).bind fun _ =>
  bnd2 (fJ22_iterator D h4 x3) fun x6 h7 =>
  fX1_findingsOf_p16 D FU h7 a1 a2 (0 : Int32) x6
theorem vX1_findingsOf {h : aH} {a0 : Option Nat} {a1 : Option Nat} {a2 : Int32} {q : Int32} {g : aH} (X : aX p l R s m meth c D n0 s0 yX1_findingsOf cX1_findingsOf 4 76 6 (some .int) h0) (hf : fX1_findingsOf D h a0 a1 a2 = some (q, g)) : V p l e R s m args below meth c D n0 s0 (aEnd D below args s h0 (.inr (some (.int q)), g)) h 0 [(0, false, va_rf a0), (1, false, va_rf a1), (2, false, .int a2)] [] := by
  have C := X.1
  unfold fX1_findingsOf at hf
  refine v_iconst (pc := 0) (v := (0 : Int32)) C dX1_findingsOf_0 rfl ?_
  refine v_istore_n (pc := 1) (lv' := [(3, false, .int (0 : Int32)), (0, false, va_rf a0), (1, false, va_rf a1), (2, false, .int a2)]) C dX1_findingsOf_1 rfl (by decide) rfl ?_
  refine v_aload_n (pc := 2) (j := 1) C dX1_findingsOf_2 rfl rfl ?_
  obtain ⟨x1, ex1, hf⟩ := oB hf
  refine v_getF (pc := 3) C lk_X1_65 (gR_eq ex1) dX1_findingsOf_3 ?_
  obtain ⟨b2, eb2, hf⟩ := oB hf
  obtain ⟨rb2, _, kb2⟩ := aIs_eq eb2
  obtain ⟨x3, h4, ex3, hf⟩ := bnd2_eq hf
  refine v_call (pc := 6) (d_V (pc := 6) C (As := []) (rest := []) rb2 kb2 nt_16 q1559 yi_J4_values_java_util_TreeMap yk_J4_values rfl (by decide) (by decide) (Nat.le_trans aw_0 (by decide)) rfl (mJ4_values C.st ex3) dX1_findingsOf_6) ?_
  obtain ⟨b5, eb5, hf⟩ := oB hf
  obtain ⟨rb5, _, kb5⟩ := aIs_eq eb5
  obtain ⟨x6, h7, ex6, hf⟩ := bnd2_eq hf
  refine v_call (pc := 9) (d_F (pc := 9) C (As := []) (rest := []) rb5 kb5 nt_19 q1561 q911 ⟨q910, ⟨by decide +kernel, by decide +kernel⟩⟩ q1028 q1030 q1031 q1029 q1027 (by decide +kernel) yk_J22_iterator rfl (by decide) (by decide) (Nat.le_trans aw_0 (by decide)) rfl (mJ22_iterator C.st ex6) dX1_findingsOf_9) ?_
  refine v_astore (pc := 14) (lv' := [(4, false, va_rf x6), (3, false, .int (0 : Int32)), (0, false, va_rf a0), (1, false, va_rf a1), (2, false, .int a2)]) C dX1_findingsOf_14 (by decide) rfl ?_
  exact V.sub [3, 4, 1, 0] rfl (vX1_findingsOf_p16 X _ _ _ _ _ _ _ _ hf)
theorem mX1_findingsOf {l : Launch} {D : aD} {h : aH} {a0 : Option Nat} {a1 : Option Nat} {a2 : Int32} {q : Int32} {g : aH} (hst : l.stackTraces = false) (hf : fX1_findingsOf D h a0 a1 a2 = some (q, g)) : aM l D yX1_findingsOf cX1_findingsOf 6 (some .int) 4 76 [va_rf a0, va_rf a1, .int a2] h (.inr (some (.int q)), g) :=
  aM.ofX [(false, va_rf a0), (false, va_rf a1), (false, .int a2)] rfl (ap_r (ap_r (ap_c rfl ap_0))) (by decide +kernel) hst (al_of (aw_r (aw_r (aw_i aw_0))) (by decide)) fun p e s m args below meth c X => V.sub (lv' := [(0, false, va_rf a0), (1, false, va_rf a1), (2, false, .int a2)]) [0, 1, 2] rfl (vX1_findingsOf X hf)
def fX8_init (D : aD) (h : aH) (a0 : Option Nat) (a1 : Option Nat) (a2 : Int32) (a3 : Option Nat) (a4 : Option Nat) (a5 : Int32) (a6 : Int32) : Option (aH) :=
  (pF D h 7 6 a0 (va_rf a1)).bind fun h1 =>
  (a0).bind fun _ =>
  (gR h1 7 6 a0).bind fun x3 =>
  (gI h1 0 6 x3).bind fun x4 =>
  (pF D h1 7 0 a0 (.int x4)).bind fun h5 =>
  (pF D h5 7 1 a0 (.int a2)).bind fun h6 =>
  (pF D h6 7 2 a0 (va_rf a3)).bind fun h7 =>
  (pF D h7 7 3 a0 (va_rf a4)).bind fun h8 =>
  (pF D h8 7 4 a0 (.int a5)).bind fun h9 =>
  (pF D h9 7 5 a0 (.int a6)).bind fun h10 =>
  some h10
theorem vX8_init {h : aH} {a0 : Option Nat} {a1 : Option Nat} {a2 : Int32} {a3 : Option Nat} {a4 : Option Nat} {a5 : Int32} {a6 : Int32} {g : aH} (X : aX p l R s m meth c D n0 s0 yX8_init cX8_init 1 12 7 (none) h0) (hf : fX8_init D h a0 a1 a2 a3 a4 a5 a6 = some g) : V p l e R s m args below meth c D n0 s0 (aEnd D below args s h0 (.inr none, g)) h 0 [(0, false, va_rf a0), (1, false, va_rf a1), (2, false, .int a2), (3, false, va_rf a3), (4, false, va_rf a4), (5, false, .int a5), (6, false, .int a6)] [] := by
  have C := X.1
  unfold fX8_init at hf
  refine v_aload_n (pc := 0) (j := 0) C dX8_init_0 rfl rfl ?_
  refine v_aload_n (pc := 1) (j := 1) C dX8_init_1 rfl rfl ?_
  obtain ⟨h1, eh1, hf⟩ := oB hf
  refine v_putC (pc := 2) C X.2.2.2.2.2.1 lk_X8_3 rfl q2039 tyX8 tyX8_ok nmX8 (tyX8_ok 6 (by decide)) rfl ft_o eh1 dX8_init_2 ?_
  refine v_aload_n (pc := 5) (j := 0) C dX8_init_5 rfl rfl ?_
  obtain ⟨_, e2, hf⟩ := oB hf
  refine v_objInit (pc := 6) C e2 q2023 q138 q139 (by decide) (Nat.le_trans (Nat.add_le_add_right aw_0 12) (by decide)) dX8_init_6 ?_
  refine v_aload_n (pc := 9) (j := 0) C dX8_init_9 rfl rfl ?_
  refine v_aload_n (pc := 10) (j := 0) C dX8_init_10 rfl rfl ?_
  obtain ⟨x3, ex3, hf⟩ := oB hf
  refine v_getF (pc := 11) C lk_X8_3 (gR_eq ex3) dX8_init_11 ?_
  obtain ⟨x4, ex4, hf⟩ := oB hf
  refine v_getF (pc := 14) C lk_X8_15 (gI_eq ex4) dX8_init_14 ?_
  obtain ⟨h5, eh5, hf⟩ := oB hf
  refine v_putC (pc := 17) C X.2.2.2.2.2.1 lk_X8_19 rfl q2024 tyX8 tyX8_ok nmX8 (tyX8_ok 0 (by decide)) rfl rfl eh5 dX8_init_17 ?_
  refine v_aload_n (pc := 20) (j := 0) C dX8_init_20 rfl rfl ?_
  refine v_iload_n (pc := 21) (j := 2) C dX8_init_21 rfl rfl ?_
  obtain ⟨h6, eh6, hf⟩ := oB hf
  refine v_putC (pc := 22) C X.2.2.2.2.2.1 lk_X8_22 rfl q2027 tyX8 tyX8_ok nmX8 (tyX8_ok 1 (by decide)) rfl rfl eh6 dX8_init_22 ?_
  refine v_aload_n (pc := 25) (j := 0) C dX8_init_25 rfl rfl ?_
  refine v_aload_n (pc := 26) (j := 3) C dX8_init_26 rfl rfl ?_
  obtain ⟨h7, eh7, hf⟩ := oB hf
  refine v_putC (pc := 27) C X.2.2.2.2.2.1 lk_X8_25 rfl q2030 tyX8 tyX8_ok nmX8 (tyX8_ok 2 (by decide)) rfl ft_o eh7 dX8_init_27 ?_
  refine v_aload_n (pc := 30) (j := 0) C dX8_init_30 rfl rfl ?_
  refine v_aload (pc := 31) (j := 4) C dX8_init_31 rfl ?_
  obtain ⟨h8, eh8, hf⟩ := oB hf
  refine v_putC (pc := 33) C X.2.2.2.2.2.1 lk_X8_29 rfl q2033 tyX8 tyX8_ok nmX8 (tyX8_ok 3 (by decide)) rfl ft_o eh8 dX8_init_33 ?_
  refine v_aload_n (pc := 36) (j := 0) C dX8_init_36 rfl rfl ?_
  refine v_iload (pc := 37) (j := 5) C dX8_init_37 rfl ?_
  obtain ⟨h9, eh9, hf⟩ := oB hf
  refine v_putC (pc := 39) C X.2.2.2.2.2.1 lk_X8_32 rfl q2035 tyX8 tyX8_ok nmX8 (tyX8_ok 4 (by decide)) rfl rfl eh9 dX8_init_39 ?_
  refine v_aload_n (pc := 42) (j := 0) C dX8_init_42 rfl rfl ?_
  refine v_iload (pc := 43) (j := 6) C dX8_init_43 rfl ?_
  obtain ⟨h10, eh10, hf⟩ := oB hf
  refine v_putC (pc := 45) C X.2.2.2.2.2.1 lk_X8_35 rfl q2036 tyX8 tyX8_ok nmX8 (tyX8_ok 5 (by decide)) rfl rfl eh10 dX8_init_45 ?_
  cases hf
  exact v_return (pc := 48) C X.2.1 X.2.2.1 X.2.2.2.1 rfl dX8_init_48
theorem mX8_init {l : Launch} {D : aD} {h : aH} {a0 : Option Nat} {a1 : Option Nat} {a2 : Int32} {a3 : Option Nat} {a4 : Option Nat} {a5 : Int32} {a6 : Int32} {g : aH} (hst : l.stackTraces = false) (hf : fX8_init D h a0 a1 a2 a3 a4 a5 a6 = some g) : aM l D yX8_init cX8_init 7 (none) 1 12 [va_rf a0, va_rf a1, .int a2, va_rf a3, va_rf a4, .int a5, .int a6] h (.inr none, g) :=
  aM.ofX [(false, va_rf a0), (false, va_rf a1), (false, .int a2), (false, va_rf a3), (false, va_rf a4), (false, .int a5), (false, .int a6)] rfl (ap_r (ap_r (ap_c rfl (ap_r (ap_r (ap_c rfl (ap_c rfl ap_0))))))) (by decide +kernel) hst (al_of (aw_r (aw_r (aw_i (aw_r (aw_r (aw_i (aw_i aw_0))))))) (by decide)) fun p e s m args below meth c X => V.sub (lv' := [(0, false, va_rf a0), (1, false, va_rf a1), (2, false, .int a2), (3, false, va_rf a3), (4, false, va_rf a4), (5, false, .int a5), (6, false, .int a6)]) [0, 1, 2, 3, 4, 5, 6] rfl (vX8_init X hf)
def fJ4_getEntry_p28 (D : aD) (h : aH) : Nat → (Option Nat) → (Option Nat) → Option (Option Nat)
  | 0, _, _ => none
  | n + 1, a2, a3 =>
  if a3 = none then
  (some none)
  else
  ((gR h 17 0 a3).bind fun x1 =>
  (fd_Comparable_compareTo_22_10 D h a2 x1).bind fun x3 =>
  if 0 ≤ x3 then
  (if x3 ≤ 0 then
  (some a3)
  else
  ((gR h 17 3 a3).bind fun x5 =>
  fJ4_getEntry_p28 D h n a2 x5))
  else
  ((gR h 17 2 a3).bind fun x6 =>
  fJ4_getEntry_p28 D h n a2 x6))
theorem vJ4_getEntry_p28 {h : aH} (X : aX p l R s m meth c D n0 s0 yJ4_getEntry cJ4_getEntry 3 63 5 (some (.object "java/util/TreeMap$Entry")) h0) : ∀ (n : Nat) (a2 : Option Nat) (a3 : Option Nat) (q : Option Nat), fJ4_getEntry_p28 D h n a2 a3 = some q → V p l e R s m args below meth c D n0 s0 (aEnd D below args s h0 (.inr (some (va_rf q)), h)) h 28 [(2, false, va_rf a2), (3, false, va_rf a3)] [] := by
  have C := X.1
  intro n
  induction n with
  | zero =>
    intro _ _ _ hf
    rw [fJ4_getEntry_p28] at hf
    cases hf
  | succ n ih =>
    intro a2 a3 q hf
    rw [fJ4_getEntry_p28] at hf
    refine v_aload_n (pc := 28) (j := 1) C dJ4_getEntry_28 rfl rfl ?_
    refine v_ifnull (pc := 29) (tgt := 75) C dJ4_getEntry_29 rfl (fun hc => ?_) (fun hc => ?_)
    · rw [if_pos hc] at hf
      refine v_null (pc := 75) C dJ4_getEntry_75 ?_
      cases hf
      exact v_areturn (pc := 76) C X.2.1 X.2.2.1 X.2.2.2.1 (Or.inl ⟨_, rfl⟩) rfl dJ4_getEntry_76
    · rw [if_neg hc] at hf
      refine v_aload_n (pc := 32) (j := 0) C dJ4_getEntry_32 rfl rfl ?_
      refine v_aload_n (pc := 33) (j := 1) C dJ4_getEntry_33 rfl rfl ?_
      obtain ⟨x1, ex1, hf⟩ := oB hf
      refine v_getF (pc := 34) C lk_J4_105 (gR_eq ex1) dJ4_getEntry_34 ?_
      obtain ⟨x3, ex3, hf⟩ := oB hf
      refine v_call (pc := 37) (dd_Comparable_compareTo_22_10 (pc := 37) C q1419 (by decide) (by decide) (Nat.le_trans aw_0 (by decide)) rfl ex3 dJ4_getEntry_37) ?_
      refine v_istore (pc := 42) (lv' := [(4, false, .int x3), (2, false, va_rf a2), (3, false, va_rf a3)]) C dJ4_getEntry_42 (by decide) rfl ?_
      refine v_iload (pc := 44) (j := 0) C dJ4_getEntry_44 rfl ?_
      refine v_if_ge (pc := 46) (tgt := 57) C dJ4_getEntry_46 rfl (fun hc => ?_) (fun hc => ?_)
      · rw [if_pos hc] at hf
        refine v_iload (pc := 57) (j := 0) C dJ4_getEntry_57 rfl ?_
        refine v_if_le (pc := 59) (tgt := 70) C dJ4_getEntry_59 rfl (fun hc => ?_) (fun hc => ?_)
        · rw [if_pos hc] at hf
          refine v_aload_n (pc := 70) (j := 2) C dJ4_getEntry_70 rfl rfl ?_
          cases hf
          exact v_areturn (pc := 71) C X.2.1 X.2.2.1 X.2.2.2.1 (Or.inl ⟨_, rfl⟩) rfl dJ4_getEntry_71
        · rw [if_neg hc] at hf
          refine v_aload_n (pc := 62) (j := 2) C dJ4_getEntry_62 rfl rfl ?_
          obtain ⟨x5, ex5, hf⟩ := oB hf
          refine v_getF (pc := 63) C lk_J4_114 (gR_eq ex5) dJ4_getEntry_63 ?_
          refine v_astore_n (pc := 66) (lv' := [(3, false, va_rf x5), (4, false, .int x3), (2, false, va_rf a2)]) C dJ4_getEntry_66 rfl (by decide) rfl ?_
          refine v_goto (pc := 67) (tgt := 72) C dJ4_getEntry_67 rfl ?_
          refine v_goto (pc := 72) (tgt := 28) C dJ4_getEntry_72 rfl ?_
          exact V.sub [2, 0] rfl (ih _ _ _ hf)
      · rw [if_neg hc] at hf
        refine v_aload_n (pc := 49) (j := 2) C dJ4_getEntry_49 rfl rfl ?_
        obtain ⟨x6, ex6, hf⟩ := oB hf
        refine v_getF (pc := 50) C lk_J4_111 (gR_eq ex6) dJ4_getEntry_50 ?_
        refine v_astore_n (pc := 53) (lv' := [(3, false, va_rf x6), (4, false, .int x3), (2, false, va_rf a2)]) C dJ4_getEntry_53 rfl (by decide) rfl ?_
        refine v_goto (pc := 54) (tgt := 72) C dJ4_getEntry_54 rfl ?_
        refine v_goto (pc := 72) (tgt := 28) C dJ4_getEntry_72 rfl ?_
        exact V.sub [2, 0] rfl (ih _ _ _ hf)
def fJ4_getEntry (D : aD) (h : aH) (a0 : Option Nat) (a1 : Option Nat) : Option (Option Nat) :=
  (gR h 16 2 a0).bind fun x1 =>
  if x1 = none then
  ((fJ16_requireNonNull D h a1).bind fun x3 =>
  (aCast h [6, 10, 22] a1).bind fun _ =>
  (gR h 16 3 a0).bind fun x6 =>
  fJ4_getEntry_p28 D h FU a1 x6)
  else
  (none)
theorem vJ4_getEntry {h : aH} {a0 : Option Nat} {a1 : Option Nat} {q : Option Nat} (X : aX p l R s m meth c D n0 s0 yJ4_getEntry cJ4_getEntry 3 63 5 (some (.object "java/util/TreeMap$Entry")) h0) (hf : fJ4_getEntry D h a0 a1 = some q) : V p l e R s m args below meth c D n0 s0 (aEnd D below args s h0 (.inr (some (va_rf q)), h)) h 0 [(0, false, va_rf a0), (1, false, va_rf a1)] [] := by
  have C := X.1
  unfold fJ4_getEntry at hf
  refine v_aload_n (pc := 0) (j := 0) C dJ4_getEntry_0 rfl rfl ?_
  obtain ⟨x1, ex1, hf⟩ := oB hf
  refine v_getF (pc := 1) C lk_J4_16 (gR_eq ex1) dJ4_getEntry_1 ?_
  refine v_ifnull (pc := 4) (tgt := 13) C dJ4_getEntry_4 rfl (fun hc => ?_) (fun hc => ?_)
  · rw [if_pos hc] at hf
    refine v_aload_n (pc := 13) (j := 1) C dJ4_getEntry_13 rfl rfl ?_
    obtain ⟨x3, ex3, hf⟩ := oB hf
    refine v_call (pc := 14) (d_S (pc := 14) C (As := [va_rf a1]) (rest := []) q1453 q1454 yk_J16_requireNonNull rfl (by decide) (by decide) (Nat.le_trans aw_0 (by decide)) rfl (mJ16_requireNonNull C.st ex3) dJ4_getEntry_14) ?_
    refine v_pop (pc := 17) C dJ4_getEntry_17 (va_rfc _) ?_
    refine v_aload_n (pc := 18) (j := 1) C dJ4_getEntry_18 rfl rfl ?_
    obtain ⟨_, e5, hf⟩ := oB hf
    refine v_cast (pc := 19) C q1417 ct_java_lang_Comparable e5 dJ4_getEntry_19 ?_
    refine v_astore_n (pc := 22) (lv' := [(2, false, va_rf a1), (0, false, va_rf a0), (1, false, va_rf a1)]) C dJ4_getEntry_22 rfl (by decide) rfl ?_
    refine v_aload_n (pc := 23) (j := 1) C dJ4_getEntry_23 rfl rfl ?_
    obtain ⟨x6, ex6, hf⟩ := oB hf
    refine v_getF (pc := 24) C lk_J4_101 (gR_eq ex6) dJ4_getEntry_24 ?_
    refine v_astore_n (pc := 27) (lv' := [(3, false, va_rf x6), (2, false, va_rf a1), (0, false, va_rf a0), (1, false, va_rf a1)]) C dJ4_getEntry_27 rfl (by decide) rfl ?_
    exact V.sub [1, 0] rfl (vJ4_getEntry_p28 X _ _ _ _ hf)
  · rw [if_neg hc] at hf
    refine v_aload_n (pc := 7) (j := 0) C dJ4_getEntry_7 rfl rfl ?_
    refine v_aload_n (pc := 8) (j := 1) C dJ4_getEntry_8 rfl rfl ?_
    cases hf
theorem mJ4_getEntry {l : Launch} {D : aD} {h : aH} {a0 : Option Nat} {a1 : Option Nat} {q : Option Nat} (hst : l.stackTraces = false) (hf : fJ4_getEntry D h a0 a1 = some q) : aM l D yJ4_getEntry cJ4_getEntry 5 (some (.object "java/util/TreeMap$Entry")) 3 63 [va_rf a0, va_rf a1] h (.inr (some (va_rf q)), h) :=
  aM.ofX [(false, va_rf a0), (false, va_rf a1)] rfl (ap_r (ap_r ap_0)) (by decide +kernel) hst (al_of (aw_r (aw_r aw_0)) (by decide)) fun p e s m args below meth c X => V.sub (lv' := [(0, false, va_rf a0), (1, false, va_rf a1)]) [0, 1] rfl (vJ4_getEntry X hf)
def fJ4_get (D : aD) (h : aH) (a0 : Option Nat) (a1 : Option Nat) : Option (Option Nat) :=
  (aIs h 16 a0).bind fun _ =>
  (fJ4_getEntry D h a0 a1).bind fun x2 =>
  if x2 = none then
  (some none)
  else
  ((gR h 17 1 x2).bind fun x4 =>
  some x4)
theorem vJ4_get {h : aH} {a0 : Option Nat} {a1 : Option Nat} {q : Option Nat} (X : aX p l R s m meth c D n0 s0 yJ4_get cJ4_get 4 87 3 (some (.object "java/lang/Object")) h0) (hf : fJ4_get D h a0 a1 = some q) : V p l e R s m args below meth c D n0 s0 (aEnd D below args s h0 (.inr (some (va_rf q)), h)) h 0 [(0, false, va_rf a0), (1, false, va_rf a1)] [] := by
  have C := X.1
  unfold fJ4_get at hf
  refine v_aload_n (pc := 0) (j := 0) C dJ4_get_0 rfl rfl ?_
  refine v_aload_n (pc := 1) (j := 1) C dJ4_get_1 rfl rfl ?_
  obtain ⟨b1, eb1, hf⟩ := oB hf
  obtain ⟨rb1, _, kb1⟩ := aIs_eq eb1
  obtain ⟨x2, ex2, hf⟩ := oB hf
  refine v_call (pc := 2) (d_V (pc := 2) C (As := [va_rf a1]) (rest := []) rb1 kb1 nt_16 q2101 yi_J4_getEntry_java_util_TreeMap yk_J4_getEntry rfl (by decide) (by decide) (Nat.le_trans aw_0 (by decide)) rfl (mJ4_getEntry C.st ex2) dJ4_get_2) ?_
  refine v_astore_n (pc := 5) (lv' := [(2, false, va_rf x2), (0, false, va_rf a0), (1, false, va_rf a1)]) C dJ4_get_5 rfl (by decide) rfl ?_
  refine v_aload_n (pc := 6) (j := 0) C dJ4_get_6 rfl rfl ?_
  refine v_ifnonnull (pc := 7) (tgt := 14) C dJ4_get_7 rfl (fun hc => ?_) (fun hc => ?_)
  · rw [if_neg hc] at hf
    refine v_aload_n (pc := 14) (j := 0) C dJ4_get_14 rfl rfl ?_
    obtain ⟨x4, ex4, hf⟩ := oB hf
    refine v_getF (pc := 15) C lk_J4_58 (gR_eq ex4) dJ4_get_15 ?_
    cases hf
    exact v_areturn (pc := 18) C X.2.1 X.2.2.1 X.2.2.2.1 (Or.inl ⟨_, rfl⟩) rfl dJ4_get_18
  · rw [if_pos hc] at hf
    refine v_null (pc := 10) C dJ4_get_10 ?_
    refine v_goto (pc := 11) (tgt := 18) C dJ4_get_11 rfl ?_
    cases hf
    exact v_areturn (pc := 18) C X.2.1 X.2.2.1 X.2.2.2.1 (Or.inl ⟨_, rfl⟩) rfl dJ4_get_18
theorem mJ4_get {l : Launch} {D : aD} {h : aH} {a0 : Option Nat} {a1 : Option Nat} {q : Option Nat} (hst : l.stackTraces = false) (hf : fJ4_get D h a0 a1 = some q) : aM l D yJ4_get cJ4_get 3 (some (.object "java/lang/Object")) 4 87 [va_rf a0, va_rf a1] h (.inr (some (va_rf q)), h) :=
  aM.ofX [(false, va_rf a0), (false, va_rf a1)] rfl (ap_r (ap_r ap_0)) (by decide +kernel) hst (al_of (aw_r (aw_r aw_0)) (by decide)) fun p e s m args below meth c X => V.sub (lv' := [(0, false, va_rf a0), (1, false, va_rf a1)]) [0, 1] rfl (vJ4_get X hf)
def fX1_finding_p22 (D : aD) (h : aH) (t0 : Option Nat) : Option ((Nat ⊕ Option Nat) × aH) :=
  if t0 = none then
  ((aThr D h).bind fun h1 =>
  some (.inl 1, h1))
  else
  (some (.inr t0, h))
theorem vX1_finding_p22 {h : aH} {t0 : Option Nat} {q : Nat ⊕ Option Nat} {g : aH} (X : aX p l R s m meth c D n0 s0 yX1_finding cX1_finding 6 109 3 (some (.object "FigureSurvey$Finding")) h0) (hf : fX1_finding_p22 D h t0 = some (q, g)) : V p l e R s m args below meth c D n0 s0 (aEnd D below args s h0 (wA q, g)) h 22 [] [va_rf t0] := by
  have C := X.1
  unfold fX1_finding_p22 at hf
  refine v_astore_n (pc := 22) (lv' := [(2, false, va_rf t0)]) C dX1_finding_22 rfl (by decide) rfl ?_
  refine v_aload_n (pc := 23) (j := 0) C dX1_finding_23 rfl rfl ?_
  refine v_ifnonnull (pc := 24) (tgt := 37) C dX1_finding_24 rfl (fun hc => ?_) (fun hc => ?_)
  · rw [if_neg hc] at hf
    refine v_aload_n (pc := 37) (j := 0) C dX1_finding_37 rfl rfl ?_
    cases hf
    exact v_areturn (pc := 38) C X.2.1 X.2.2.1 X.2.2.2.1 (Or.inl ⟨_, rfl⟩) rfl dX1_finding_38
  · rw [if_pos hc] at hf
    obtain ⟨h1, eh1, hf⟩ := oB hf
    cases hf
    exact v_throw (pc := 27) C X.2.1 X.2.2.1 X.2.2.2.2.1 (is := 160) (text := "no such finding") (cls := "java/lang/IndexOutOfBoundsException") (by decide +kernel) (by decide +kernel) q1712 q91 aTh_1 rfl eh1 rfl (by decide) (Nat.le_trans (Nat.add_le_add_right aw_0 82) (by decide)) dX1_finding_27 dX1_finding_30 dX1_finding_31 dX1_finding_33 dX1_finding_36
def fX1_finding (D : aD) (h : aH) (a0 : Option Nat) (a1 : Int32) : Option ((Nat ⊕ Option Nat) × aH) :=
  if 0 ≤ a1 then
  ((gR h 0 5 a0).bind fun x1 =>
  bnd2 (fJ19_valueOf D h a1) fun x3 h4 =>
  (aIs h4 16 x1).bind fun _ =>
  (fJ4_get D h4 x1 x3).bind fun x6 =>
  (aCast h4 [7] x6).bind fun _ =>
  fX1_finding_p22 D h4 x6)
  else
  (fX1_finding_p22 D h none)
theorem vX1_finding {h : aH} {a0 : Option Nat} {a1 : Int32} {q : Nat ⊕ Option Nat} {g : aH} (X : aX p l R s m meth c D n0 s0 yX1_finding cX1_finding 6 109 3 (some (.object "FigureSurvey$Finding")) h0) (hf : fX1_finding D h a0 a1 = some (q, g)) : V p l e R s m args below meth c D n0 s0 (aEnd D below args s h0 (wA q, g)) h 0 [(0, false, va_rf a0), (1, false, .int a1)] [] := by
  have C := X.1
  unfold fX1_finding at hf
  refine v_iload_n (pc := 0) (j := 1) C dX1_finding_0 rfl rfl ?_
  refine v_if_ge (pc := 1) (tgt := 8) C dX1_finding_1 rfl (fun hc => ?_) (fun hc => ?_)
  · rw [if_pos hc] at hf
    refine v_aload_n (pc := 8) (j := 0) C dX1_finding_8 rfl rfl ?_
    obtain ⟨x1, ex1, hf⟩ := oB hf
    refine v_getF (pc := 9) C lk_X1_65 (gR_eq ex1) dX1_finding_9 ?_
    refine v_iload_n (pc := 12) (j := 1) C dX1_finding_12 rfl rfl ?_
    obtain ⟨x3, h4, ex3, hf⟩ := bnd2_eq hf
    refine v_call (pc := 13) (d_S (pc := 13) C (As := [.int a1]) (rest := [va_rf x1]) q2059 q2060 yk_J19_valueOf rfl (by decide) (by decide) (Nat.le_trans (aw_r aw_0) (by decide)) rfl (mJ19_valueOf C.st ex3) dX1_finding_13) ?_
    obtain ⟨b5, eb5, hf⟩ := oB hf
    obtain ⟨rb5, _, kb5⟩ := aIs_eq eb5
    obtain ⟨x6, ex6, hf⟩ := oB hf
    refine v_call (pc := 16) (d_V (pc := 16) C (As := [va_rf x3]) (rest := []) rb5 kb5 nt_16 q2097 yi_J4_get_java_util_TreeMap yk_J4_get rfl (by decide) (by decide) (Nat.le_trans aw_0 (by decide)) rfl (mJ4_get C.st ex6) dX1_finding_16) ?_
    obtain ⟨_, e8, hf⟩ := oB hf
    refine v_cast (pc := 19) C q1566 ct_FigureSurvey_Finding e8 dX1_finding_19 ?_
    exact V.sub [] rfl (vX1_finding_p22 X hf)
  · rw [if_neg hc] at hf
    refine v_null (pc := 4) C dX1_finding_4 ?_
    refine v_goto (pc := 5) (tgt := 22) C dX1_finding_5 rfl ?_
    exact V.sub [] rfl (vX1_finding_p22 X hf)
theorem mX1_finding {l : Launch} {D : aD} {h : aH} {a0 : Option Nat} {a1 : Int32} {q : Nat ⊕ Option Nat} {g : aH} (hst : l.stackTraces = false) (hf : fX1_finding D h a0 a1 = some (q, g)) : aM l D yX1_finding cX1_finding 3 (some (.object "FigureSurvey$Finding")) 6 109 [va_rf a0, .int a1] h (wA q, g) :=
  aM.ofX [(false, va_rf a0), (false, .int a1)] rfl (ap_r (ap_c rfl ap_0)) (by decide +kernel) hst (al_of (aw_r (aw_i aw_0)) (by decide)) fun p e s m args below meth c X => V.sub (lv' := [(0, false, va_rf a0), (1, false, .int a1)]) [0, 1] rfl (vX1_finding X hf)
def fJ4_fixAfterDeletion_p143 (D : aD) (K0 : aH → (Option Nat) → (Option Nat) → Option (aH)) (h : aH) (a0 : Option Nat) (a1 : Option Nat) (a2 : Option Nat) : Option (aH) :=
  (fJ4_parentOf D h a1).bind fun x2 =>
  (fJ4_colorOf D h x2).bind fun x5 =>
  (fJ4_setColor D h a2 x5).bind fun h9 =>
  (fJ4_parentOf D h9 a1).bind fun x11 =>
  (fJ4_setColor D h9 x11 (1 : Int32)).bind fun h15 =>
  (fJ4_rightOf D h15 a2).bind fun x17 =>
  (fJ4_setColor D h15 x17 (1 : Int32)).bind fun h21 =>
  (fJ4_parentOf D h21 a1).bind fun x23 =>
  (aIs h21 16 a0).bind fun _ =>
  (fJ4_rotateLeft D h21 a0 x23).bind fun h27 =>
  (gR h27 16 3 a0).bind fun x28 =>
  K0 h27 a0 x28
theorem vJ4_fixAfterDeletion_p143 {h : aH} {K0 : aH → (Option Nat) → (Option Nat) → Option (aH)} {a0 : Option Nat} {a1 : Option Nat} {a2 : Option Nat} {g : aH} (X : aX p l R s m meth c D n0 s0 yJ4_fixAfterDeletion cJ4_fixAfterDeletion 1 22 3 (none) h0) (k0 : ∀ (h : aH) (a0 : Option Nat) (a1 : Option Nat) (g : aH), K0 h a0 a1 = some g → V p l e R s m args below meth c D n0 s0 (aEnd D below args s h0 (.inr none, g)) h 0 [(0, false, va_rf a0), (1, false, va_rf a1)] []) (hf : fJ4_fixAfterDeletion_p143 D K0 h a0 a1 a2 = some g) : V p l e R s m args below meth c D n0 s0 (aEnd D below args s h0 (.inr none, g)) h 143 [(0, false, va_rf a0), (1, false, va_rf a1), (2, false, va_rf a2)] [] := by
  have C := X.1
  unfold fJ4_fixAfterDeletion_p143 at hf
  refine v_aload_n (pc := 143) (j := 2) C dJ4_fixAfterDeletion_143 rfl rfl ?_
  refine v_aload_n (pc := 144) (j := 1) C dJ4_fixAfterDeletion_144 rfl rfl ?_
  obtain ⟨x2, ex2, hf⟩ := oB hf
  refine v_call (pc := 145) (d_S (pc := 145) C (As := [va_rf a1]) (rest := [va_rf a2]) q1464 q1465 yk_J4_parentOf rfl (by decide) (by decide) (Nat.le_trans (aw_r aw_0) (by decide)) rfl (mJ4_parentOf C.st ex2) dJ4_fixAfterDeletion_145) ?_
  obtain ⟨x5, ex5, hf⟩ := oB hf
  refine v_call (pc := 148) (d_S (pc := 148) C (As := [va_rf x2]) (rest := [va_rf a2]) q1473 q1474 yk_J4_colorOf rfl (by decide) (by decide) (Nat.le_trans (aw_r aw_0) (by decide)) rfl (mJ4_colorOf C.st ex5) dJ4_fixAfterDeletion_148) ?_
  obtain ⟨h9, ex8, hf⟩ := oB hf
  refine v_callU (pc := 151) (d_S (pc := 151) C (As := [va_rf a2, .int x5]) (rest := []) q1476 q1477 yk_J4_setColor rfl (by decide) (by decide) (Nat.le_trans aw_0 (by decide)) rfl (mJ4_setColor C.st ex8) dJ4_fixAfterDeletion_151) ?_
  refine v_aload_n (pc := 154) (j := 1) C dJ4_fixAfterDeletion_154 rfl rfl ?_
  obtain ⟨x11, ex11, hf⟩ := oB hf
  refine v_call (pc := 155) (d_S (pc := 155) C (As := [va_rf a1]) (rest := []) q1464 q1465 yk_J4_parentOf rfl (by decide) (by decide) (Nat.le_trans aw_0 (by decide)) rfl (mJ4_parentOf C.st ex11) dJ4_fixAfterDeletion_155) ?_
  refine v_iconst (pc := 158) (v := (1 : Int32)) C dJ4_fixAfterDeletion_158 rfl ?_
  obtain ⟨h15, ex14, hf⟩ := oB hf
  refine v_callU (pc := 159) (d_S (pc := 159) C (As := [va_rf x11, .int (1 : Int32)]) (rest := []) q1476 q1477 yk_J4_setColor rfl (by decide) (by decide) (Nat.le_trans aw_0 (by decide)) rfl (mJ4_setColor C.st ex14) dJ4_fixAfterDeletion_159) ?_
  refine v_aload_n (pc := 162) (j := 2) C dJ4_fixAfterDeletion_162 rfl rfl ?_
  obtain ⟨x17, ex17, hf⟩ := oB hf
  refine v_call (pc := 163) (d_S (pc := 163) C (As := [va_rf a2]) (rest := []) q1470 q1471 yk_J4_rightOf rfl (by decide) (by decide) (Nat.le_trans aw_0 (by decide)) rfl (mJ4_rightOf C.st ex17) dJ4_fixAfterDeletion_163) ?_
  refine v_iconst (pc := 166) (v := (1 : Int32)) C dJ4_fixAfterDeletion_166 rfl ?_
  obtain ⟨h21, ex20, hf⟩ := oB hf
  refine v_callU (pc := 167) (d_S (pc := 167) C (As := [va_rf x17, .int (1 : Int32)]) (rest := []) q1476 q1477 yk_J4_setColor rfl (by decide) (by decide) (Nat.le_trans aw_0 (by decide)) rfl (mJ4_setColor C.st ex20) dJ4_fixAfterDeletion_167) ?_
  refine v_aload_n (pc := 170) (j := 0) C dJ4_fixAfterDeletion_170 rfl rfl ?_
  refine v_aload_n (pc := 171) (j := 1) C dJ4_fixAfterDeletion_171 rfl rfl ?_
  obtain ⟨x23, ex23, hf⟩ := oB hf
  refine v_call (pc := 172) (d_S (pc := 172) C (As := [va_rf a1]) (rest := [va_rf a0]) q1464 q1465 yk_J4_parentOf rfl (by decide) (by decide) (Nat.le_trans (aw_r aw_0) (by decide)) rfl (mJ4_parentOf C.st ex23) dJ4_fixAfterDeletion_172) ?_
  obtain ⟨b25, eb25, hf⟩ := oB hf
  obtain ⟨rb25, _, kb25⟩ := aIs_eq eb25
  obtain ⟨h27, ex26, hf⟩ := oB hf
  refine v_callU (pc := 175) (d_V (pc := 175) C (As := [va_rf x23]) (rest := []) rb25 kb25 nt_16 q1479 yi_J4_rotateLeft_java_util_TreeMap yk_J4_rotateLeft rfl (by decide) (by decide) (Nat.le_trans aw_0 (by decide)) rfl (mJ4_rotateLeft C.st ex26) dJ4_fixAfterDeletion_175) ?_
  refine v_aload_n (pc := 178) (j := 0) C dJ4_fixAfterDeletion_178 rfl rfl ?_
  obtain ⟨x28, ex28, hf⟩ := oB hf
  refine v_getF (pc := 179) C lk_J4_101 (gR_eq ex28) dJ4_fixAfterDeletion_179 ?_
  refine v_astore_n (pc := 182) (lv' := [(1, false, va_rf x28), (0, false, va_rf a0), (2, false, va_rf a2)]) C dJ4_fixAfterDeletion_182 rfl (by decide) rfl ?_
  refine v_goto (pc := 183) (tgt := 0) C dJ4_fixAfterDeletion_183 rfl ?_
  exact V.sub [1, 0] rfl (k0 _ _ _ _ hf)
def fJ4_fixAfterDeletion_p106 (D : aD) (K0 : aH → (Option Nat) → (Option Nat) → Option (aH)) (h : aH) (a0 : Option Nat) (a1 : Option Nat) (a2 : Option Nat) : Option (aH) :=
  (fJ4_rightOf D h a2).bind fun x2 =>
  (fJ4_colorOf D h x2).bind fun x5 =>
  if x5 = (1 : Int32) then
  ((fJ4_leftOf D h a2).bind fun x8 =>
  (fJ4_setColor D h x8 (1 : Int32)).bind fun h12 =>
  (fJ4_setColor D h12 a2 (0 : Int32)).bind fun h15 =>
  (aIs h15 16 a0).bind fun _ =>
  (fJ4_rotateRight D h15 a0 a2).bind fun h18 =>
  (fJ4_parentOf D h18 a1).bind fun x20 =>
  (fJ4_rightOf D h18 x20).bind fun x23 =>
  fJ4_fixAfterDeletion_p143 D K0 h18 a0 a1 x23)
  else
  (fJ4_fixAfterDeletion_p143 D K0 h a0 a1 a2)
theorem vJ4_fixAfterDeletion_p106 {h : aH} {K0 : aH → (Option Nat) → (Option Nat) → Option (aH)} {a0 : Option Nat} {a1 : Option Nat} {a2 : Option Nat} {g : aH} (X : aX p l R s m meth c D n0 s0 yJ4_fixAfterDeletion cJ4_fixAfterDeletion 1 22 3 (none) h0) (k0 : ∀ (h : aH) (a0 : Option Nat) (a1 : Option Nat) (g : aH), K0 h a0 a1 = some g → V p l e R s m args below meth c D n0 s0 (aEnd D below args s h0 (.inr none, g)) h 0 [(0, false, va_rf a0), (1, false, va_rf a1)] []) (hf : fJ4_fixAfterDeletion_p106 D K0 h a0 a1 a2 = some g) : V p l e R s m args below meth c D n0 s0 (aEnd D below args s h0 (.inr none, g)) h 106 [(0, false, va_rf a0), (1, false, va_rf a1), (2, false, va_rf a2)] [] := by
  have C := X.1
  unfold fJ4_fixAfterDeletion_p106 at hf
  refine v_aload_n (pc := 106) (j := 2) C dJ4_fixAfterDeletion_106 rfl rfl ?_
  obtain ⟨x2, ex2, hf⟩ := oB hf
  refine v_call (pc := 107) (d_S (pc := 107) C (As := [va_rf a2]) (rest := []) q1470 q1471 yk_J4_rightOf rfl (by decide) (by decide) (Nat.le_trans aw_0 (by decide)) rfl (mJ4_rightOf C.st ex2) dJ4_fixAfterDeletion_107) ?_
  obtain ⟨x5, ex5, hf⟩ := oB hf
  refine v_call (pc := 110) (d_S (pc := 110) C (As := [va_rf x2]) (rest := []) q1473 q1474 yk_J4_colorOf rfl (by decide) (by decide) (Nat.le_trans aw_0 (by decide)) rfl (mJ4_colorOf C.st ex5) dJ4_fixAfterDeletion_110) ?_
  refine v_iconst (pc := 113) (v := (1 : Int32)) C dJ4_fixAfterDeletion_113 rfl ?_
  refine v_icmp_ne (pc := 114) (tgt := 143) C dJ4_fixAfterDeletion_114 rfl (fun hc => ?_) (fun hc => ?_)
  · rw [if_neg hc] at hf
    exact V.sub [0, 1, 2] rfl (vJ4_fixAfterDeletion_p143 X k0 hf)
  · rw [if_pos (Decidable.of_not_not hc)] at hf
    refine v_aload_n (pc := 117) (j := 2) C dJ4_fixAfterDeletion_117 rfl rfl ?_
    obtain ⟨x8, ex8, hf⟩ := oB hf
    refine v_call (pc := 118) (d_S (pc := 118) C (As := [va_rf a2]) (rest := []) q1467 q1468 yk_J4_leftOf rfl (by decide) (by decide) (Nat.le_trans aw_0 (by decide)) rfl (mJ4_leftOf C.st ex8) dJ4_fixAfterDeletion_118) ?_
    refine v_iconst (pc := 121) (v := (1 : Int32)) C dJ4_fixAfterDeletion_121 rfl ?_
    obtain ⟨h12, ex11, hf⟩ := oB hf
    refine v_callU (pc := 122) (d_S (pc := 122) C (As := [va_rf x8, .int (1 : Int32)]) (rest := []) q1476 q1477 yk_J4_setColor rfl (by decide) (by decide) (Nat.le_trans aw_0 (by decide)) rfl (mJ4_setColor C.st ex11) dJ4_fixAfterDeletion_122) ?_
    refine v_aload_n (pc := 125) (j := 2) C dJ4_fixAfterDeletion_125 rfl rfl ?_
    refine v_iconst (pc := 126) (v := (0 : Int32)) C dJ4_fixAfterDeletion_126 rfl ?_
    obtain ⟨h15, ex14, hf⟩ := oB hf
    refine v_callU (pc := 127) (d_S (pc := 127) C (As := [va_rf a2, .int (0 : Int32)]) (rest := []) q1476 q1477 yk_J4_setColor rfl (by decide) (by decide) (Nat.le_trans aw_0 (by decide)) rfl (mJ4_setColor C.st ex14) dJ4_fixAfterDeletion_127) ?_
    refine v_aload_n (pc := 130) (j := 0) C dJ4_fixAfterDeletion_130 rfl rfl ?_
    refine v_aload_n (pc := 131) (j := 2) C dJ4_fixAfterDeletion_131 rfl rfl ?_
    obtain ⟨b16, eb16, hf⟩ := oB hf
    obtain ⟨rb16, _, kb16⟩ := aIs_eq eb16
    obtain ⟨h18, ex17, hf⟩ := oB hf
    refine v_callU (pc := 132) (d_V (pc := 132) C (As := [va_rf a2]) (rest := []) rb16 kb16 nt_16 q1483 yi_J4_rotateRight_java_util_TreeMap yk_J4_rotateRight rfl (by decide) (by decide) (Nat.le_trans aw_0 (by decide)) rfl (mJ4_rotateRight C.st ex17) dJ4_fixAfterDeletion_132) ?_
    refine v_aload_n (pc := 135) (j := 1) C dJ4_fixAfterDeletion_135 rfl rfl ?_
    obtain ⟨x20, ex20, hf⟩ := oB hf
    refine v_call (pc := 136) (d_S (pc := 136) C (As := [va_rf a1]) (rest := []) q1464 q1465 yk_J4_parentOf rfl (by decide) (by decide) (Nat.le_trans aw_0 (by decide)) rfl (mJ4_parentOf C.st ex20) dJ4_fixAfterDeletion_136) ?_
    obtain ⟨x23, ex23, hf⟩ := oB hf
    refine v_call (pc := 139) (d_S (pc := 139) C (As := [va_rf x20]) (rest := []) q1470 q1471 yk_J4_rightOf rfl (by decide) (by decide) (Nat.le_trans aw_0 (by decide)) rfl (mJ4_rightOf C.st ex23) dJ4_fixAfterDeletion_139) ?_
    refine v_astore_n (pc := 142) (lv' := [(2, false, va_rf x23), (0, false, va_rf a0), (1, false, va_rf a1)]) C dJ4_fixAfterDeletion_142 rfl (by decide) rfl ?_
    exact V.sub [1, 2, 0] rfl (vJ4_fixAfterDeletion_p143 X k0 hf)
def fJ4_fixAfterDeletion_p71 (D : aD) (K0 : aH → (Option Nat) → (Option Nat) → Option (aH)) (h : aH) (a0 : Option Nat) (a1 : Option Nat) (a2 : Option Nat) : Option (aH) :=
  (fJ4_leftOf D h a2).bind fun x2 =>
  (fJ4_colorOf D h x2).bind fun x5 =>
  if x5 = (1 : Int32) then
  ((fJ4_rightOf D h a2).bind fun x8 =>
  (fJ4_colorOf D h x8).bind fun x11 =>
  if x11 = (1 : Int32) then
  ((fJ4_setColor D h a2 (0 : Int32)).bind fun h15 =>
  (fJ4_parentOf D h15 a1).bind fun x17 =>
  K0 h15 a0 x17)
  else
  (fJ4_fixAfterDeletion_p106 D K0 h a0 a1 a2))
  else
  (fJ4_fixAfterDeletion_p106 D K0 h a0 a1 a2)
theorem vJ4_fixAfterDeletion_p71 {h : aH} {K0 : aH → (Option Nat) → (Option Nat) → Option (aH)} {a0 : Option Nat} {a1 : Option Nat} {a2 : Option Nat} {g : aH} (X : aX p l R s m meth c D n0 s0 yJ4_fixAfterDeletion cJ4_fixAfterDeletion 1 22 3 (none) h0) (k0 : ∀ (h : aH) (a0 : Option Nat) (a1 : Option Nat) (g : aH), K0 h a0 a1 = some g → V p l e R s m args below meth c D n0 s0 (aEnd D below args s h0 (.inr none, g)) h 0 [(0, false, va_rf a0), (1, false, va_rf a1)] []) (hf : fJ4_fixAfterDeletion_p71 D K0 h a0 a1 a2 = some g) : V p l e R s m args below meth c D n0 s0 (aEnd D below args s h0 (.inr none, g)) h 71 [(0, false, va_rf a0), (1, false, va_rf a1), (2, false, va_rf a2)] [] := by
  have C := X.1
  unfold fJ4_fixAfterDeletion_p71 at hf
  refine v_aload_n (pc := 71) (j := 2) C dJ4_fixAfterDeletion_71 rfl rfl ?_
  obtain ⟨x2, ex2, hf⟩ := oB hf
  refine v_call (pc := 72) (d_S (pc := 72) C (As := [va_rf a2]) (rest := []) q1467 q1468 yk_J4_leftOf rfl (by decide) (by decide) (Nat.le_trans aw_0 (by decide)) rfl (mJ4_leftOf C.st ex2) dJ4_fixAfterDeletion_72) ?_
  obtain ⟨x5, ex5, hf⟩ := oB hf
  refine v_call (pc := 75) (d_S (pc := 75) C (As := [va_rf x2]) (rest := []) q1473 q1474 yk_J4_colorOf rfl (by decide) (by decide) (Nat.le_trans aw_0 (by decide)) rfl (mJ4_colorOf C.st ex5) dJ4_fixAfterDeletion_75) ?_
  refine v_iconst (pc := 78) (v := (1 : Int32)) C dJ4_fixAfterDeletion_78 rfl ?_
  refine v_icmp_ne (pc := 79) (tgt := 106) C dJ4_fixAfterDeletion_79 rfl (fun hc => ?_) (fun hc => ?_)
  · rw [if_neg hc] at hf
    exact V.sub [0, 1, 2] rfl (vJ4_fixAfterDeletion_p106 X k0 hf)
  · rw [if_pos (Decidable.of_not_not hc)] at hf
    refine v_aload_n (pc := 82) (j := 2) C dJ4_fixAfterDeletion_82 rfl rfl ?_
    obtain ⟨x8, ex8, hf⟩ := oB hf
    refine v_call (pc := 83) (d_S (pc := 83) C (As := [va_rf a2]) (rest := []) q1470 q1471 yk_J4_rightOf rfl (by decide) (by decide) (Nat.le_trans aw_0 (by decide)) rfl (mJ4_rightOf C.st ex8) dJ4_fixAfterDeletion_83) ?_
    obtain ⟨x11, ex11, hf⟩ := oB hf
    refine v_call (pc := 86) (d_S (pc := 86) C (As := [va_rf x8]) (rest := []) q1473 q1474 yk_J4_colorOf rfl (by decide) (by decide) (Nat.le_trans aw_0 (by decide)) rfl (mJ4_colorOf C.st ex11) dJ4_fixAfterDeletion_86) ?_
    refine v_iconst (pc := 89) (v := (1 : Int32)) C dJ4_fixAfterDeletion_89 rfl ?_
    refine v_icmp_ne (pc := 90) (tgt := 106) C dJ4_fixAfterDeletion_90 rfl (fun hc => ?_) (fun hc => ?_)
    · rw [if_neg hc] at hf
      exact V.sub [0, 1, 2] rfl (vJ4_fixAfterDeletion_p106 X k0 hf)
    · rw [if_pos (Decidable.of_not_not hc)] at hf
      refine v_aload_n (pc := 93) (j := 2) C dJ4_fixAfterDeletion_93 rfl rfl ?_
      refine v_iconst (pc := 94) (v := (0 : Int32)) C dJ4_fixAfterDeletion_94 rfl ?_
      obtain ⟨h15, ex14, hf⟩ := oB hf
      refine v_callU (pc := 95) (d_S (pc := 95) C (As := [va_rf a2, .int (0 : Int32)]) (rest := []) q1476 q1477 yk_J4_setColor rfl (by decide) (by decide) (Nat.le_trans aw_0 (by decide)) rfl (mJ4_setColor C.st ex14) dJ4_fixAfterDeletion_95) ?_
      refine v_aload_n (pc := 98) (j := 1) C dJ4_fixAfterDeletion_98 rfl rfl ?_
      obtain ⟨x17, ex17, hf⟩ := oB hf
      refine v_call (pc := 99) (d_S (pc := 99) C (As := [va_rf a1]) (rest := []) q1464 q1465 yk_J4_parentOf rfl (by decide) (by decide) (Nat.le_trans aw_0 (by decide)) rfl (mJ4_parentOf C.st ex17) dJ4_fixAfterDeletion_99) ?_
      refine v_astore_n (pc := 102) (lv' := [(1, false, va_rf x17), (0, false, va_rf a0), (2, false, va_rf a2)]) C dJ4_fixAfterDeletion_102 rfl (by decide) rfl ?_
      refine v_goto (pc := 103) (tgt := 183) C dJ4_fixAfterDeletion_103 rfl ?_
      refine v_goto (pc := 183) (tgt := 0) C dJ4_fixAfterDeletion_183 rfl ?_
      exact V.sub [1, 0] rfl (k0 _ _ _ _ hf)
def fJ4_fixAfterDeletion_p302 (D : aD) (K0 : aH → (Option Nat) → (Option Nat) → Option (aH)) (h : aH) (a0 : Option Nat) (a1 : Option Nat) (a2 : Option Nat) : Option (aH) :=
  (fJ4_parentOf D h a1).bind fun x2 =>
  (fJ4_colorOf D h x2).bind fun x5 =>
  (fJ4_setColor D h a2 x5).bind fun h9 =>
  (fJ4_parentOf D h9 a1).bind fun x11 =>
  (fJ4_setColor D h9 x11 (1 : Int32)).bind fun h15 =>
  (fJ4_leftOf D h15 a2).bind fun x17 =>
  (fJ4_setColor D h15 x17 (1 : Int32)).bind fun h21 =>
  (fJ4_parentOf D h21 a1).bind fun x23 =>
  (aIs h21 16 a0).bind fun _ =>
  (fJ4_rotateRight D h21 a0 x23).bind fun h27 =>
  (gR h27 16 3 a0).bind fun x28 =>
  K0 h27 a0 x28
theorem vJ4_fixAfterDeletion_p302 {h : aH} {K0 : aH → (Option Nat) → (Option Nat) → Option (aH)} {a0 : Option Nat} {a1 : Option Nat} {a2 : Option Nat} {g : aH} (X : aX p l R s m meth c D n0 s0 yJ4_fixAfterDeletion cJ4_fixAfterDeletion 1 22 3 (none) h0) (k0 : ∀ (h : aH) (a0 : Option Nat) (a1 : Option Nat) (g : aH), K0 h a0 a1 = some g → V p l e R s m args below meth c D n0 s0 (aEnd D below args s h0 (.inr none, g)) h 0 [(0, false, va_rf a0), (1, false, va_rf a1)] []) (hf : fJ4_fixAfterDeletion_p302 D K0 h a0 a1 a2 = some g) : V p l e R s m args below meth c D n0 s0 (aEnd D below args s h0 (.inr none, g)) h 302 [(0, false, va_rf a0), (1, false, va_rf a1), (2, false, va_rf a2)] [] := by
  have C := X.1
  unfold fJ4_fixAfterDeletion_p302 at hf
  refine v_aload_n (pc := 302) (j := 2) C dJ4_fixAfterDeletion_302 rfl rfl ?_
  refine v_aload_n (pc := 303) (j := 1) C dJ4_fixAfterDeletion_303 rfl rfl ?_
  obtain ⟨x2, ex2, hf⟩ := oB hf
  refine v_call (pc := 304) (d_S (pc := 304) C (As := [va_rf a1]) (rest := [va_rf a2]) q1464 q1465 yk_J4_parentOf rfl (by decide) (by decide) (Nat.le_trans (aw_r aw_0) (by decide)) rfl (mJ4_parentOf C.st ex2) dJ4_fixAfterDeletion_304) ?_
  obtain ⟨x5, ex5, hf⟩ := oB hf
  refine v_call (pc := 307) (d_S (pc := 307) C (As := [va_rf x2]) (rest := [va_rf a2]) q1473 q1474 yk_J4_colorOf rfl (by decide) (by decide) (Nat.le_trans (aw_r aw_0) (by decide)) rfl (mJ4_colorOf C.st ex5) dJ4_fixAfterDeletion_307) ?_
  obtain ⟨h9, ex8, hf⟩ := oB hf
  refine v_callU (pc := 310) (d_S (pc := 310) C (As := [va_rf a2, .int x5]) (rest := []) q1476 q1477 yk_J4_setColor rfl (by decide) (by decide) (Nat.le_trans aw_0 (by decide)) rfl (mJ4_setColor C.st ex8) dJ4_fixAfterDeletion_310) ?_
  refine v_aload_n (pc := 313) (j := 1) C dJ4_fixAfterDeletion_313 rfl rfl ?_
  obtain ⟨x11, ex11, hf⟩ := oB hf
  refine v_call (pc := 314) (d_S (pc := 314) C (As := [va_rf a1]) (rest := []) q1464 q1465 yk_J4_parentOf rfl (by decide) (by decide) (Nat.le_trans aw_0 (by decide)) rfl (mJ4_parentOf C.st ex11) dJ4_fixAfterDeletion_314) ?_
  refine v_iconst (pc := 317) (v := (1 : Int32)) C dJ4_fixAfterDeletion_317 rfl ?_
  obtain ⟨h15, ex14, hf⟩ := oB hf
  refine v_callU (pc := 318) (d_S (pc := 318) C (As := [va_rf x11, .int (1 : Int32)]) (rest := []) q1476 q1477 yk_J4_setColor rfl (by decide) (by decide) (Nat.le_trans aw_0 (by decide)) rfl (mJ4_setColor C.st ex14) dJ4_fixAfterDeletion_318) ?_
  refine v_aload_n (pc := 321) (j := 2) C dJ4_fixAfterDeletion_321 rfl rfl ?_
  obtain ⟨x17, ex17, hf⟩ := oB hf
  refine v_call (pc := 322) (d_S (pc := 322) C (As := [va_rf a2]) (rest := []) q1467 q1468 yk_J4_leftOf rfl (by decide) (by decide) (Nat.le_trans aw_0 (by decide)) rfl (mJ4_leftOf C.st ex17) dJ4_fixAfterDeletion_322) ?_
  refine v_iconst (pc := 325) (v := (1 : Int32)) C dJ4_fixAfterDeletion_325 rfl ?_
  obtain ⟨h21, ex20, hf⟩ := oB hf
  refine v_callU (pc := 326) (d_S (pc := 326) C (As := [va_rf x17, .int (1 : Int32)]) (rest := []) q1476 q1477 yk_J4_setColor rfl (by decide) (by decide) (Nat.le_trans aw_0 (by decide)) rfl (mJ4_setColor C.st ex20) dJ4_fixAfterDeletion_326) ?_
  refine v_aload_n (pc := 329) (j := 0) C dJ4_fixAfterDeletion_329 rfl rfl ?_
  refine v_aload_n (pc := 330) (j := 1) C dJ4_fixAfterDeletion_330 rfl rfl ?_
  obtain ⟨x23, ex23, hf⟩ := oB hf
  refine v_call (pc := 331) (d_S (pc := 331) C (As := [va_rf a1]) (rest := [va_rf a0]) q1464 q1465 yk_J4_parentOf rfl (by decide) (by decide) (Nat.le_trans (aw_r aw_0) (by decide)) rfl (mJ4_parentOf C.st ex23) dJ4_fixAfterDeletion_331) ?_
  obtain ⟨b25, eb25, hf⟩ := oB hf
  obtain ⟨rb25, _, kb25⟩ := aIs_eq eb25
  obtain ⟨h27, ex26, hf⟩ := oB hf
  refine v_callU (pc := 334) (d_V (pc := 334) C (As := [va_rf x23]) (rest := []) rb25 kb25 nt_16 q1483 yi_J4_rotateRight_java_util_TreeMap yk_J4_rotateRight rfl (by decide) (by decide) (Nat.le_trans aw_0 (by decide)) rfl (mJ4_rotateRight C.st ex26) dJ4_fixAfterDeletion_334) ?_
  refine v_aload_n (pc := 337) (j := 0) C dJ4_fixAfterDeletion_337 rfl rfl ?_
  obtain ⟨x28, ex28, hf⟩ := oB hf
  refine v_getF (pc := 338) C lk_J4_101 (gR_eq ex28) dJ4_fixAfterDeletion_338 ?_
  refine v_astore_n (pc := 341) (lv' := [(1, false, va_rf x28), (0, false, va_rf a0), (2, false, va_rf a2)]) C dJ4_fixAfterDeletion_341 rfl (by decide) rfl ?_
  refine v_goto (pc := 342) (tgt := 0) C dJ4_fixAfterDeletion_342 rfl ?_
  exact V.sub [1, 0] rfl (k0 _ _ _ _ hf)
def fJ4_fixAfterDeletion_p265 (D : aD) (K0 : aH → (Option Nat) → (Option Nat) → Option (aH)) (h : aH) (a0 : Option Nat) (a1 : Option Nat) (a2 : Option Nat) : Option (aH) :=
  (fJ4_leftOf D h a2).bind fun x2 =>
  (fJ4_colorOf D h x2).bind fun x5 =>
  if x5 = (1 : Int32) then
  ((fJ4_rightOf D h a2).bind fun x8 =>
  (fJ4_setColor D h x8 (1 : Int32)).bind fun h12 =>
  (fJ4_setColor D h12 a2 (0 : Int32)).bind fun h15 =>
  (aIs h15 16 a0).bind fun _ =>
  (fJ4_rotateLeft D h15 a0 a2).bind fun h18 =>
  (fJ4_parentOf D h18 a1).bind fun x20 =>
  (fJ4_leftOf D h18 x20).bind fun x23 =>
  fJ4_fixAfterDeletion_p302 D K0 h18 a0 a1 x23)
  else
  (fJ4_fixAfterDeletion_p302 D K0 h a0 a1 a2)
theorem vJ4_fixAfterDeletion_p265 {h : aH} {K0 : aH → (Option Nat) → (Option Nat) → Option (aH)} {a0 : Option Nat} {a1 : Option Nat} {a2 : Option Nat} {g : aH} (X : aX p l R s m meth c D n0 s0 yJ4_fixAfterDeletion cJ4_fixAfterDeletion 1 22 3 (none) h0) (k0 : ∀ (h : aH) (a0 : Option Nat) (a1 : Option Nat) (g : aH), K0 h a0 a1 = some g → V p l e R s m args below meth c D n0 s0 (aEnd D below args s h0 (.inr none, g)) h 0 [(0, false, va_rf a0), (1, false, va_rf a1)] []) (hf : fJ4_fixAfterDeletion_p265 D K0 h a0 a1 a2 = some g) : V p l e R s m args below meth c D n0 s0 (aEnd D below args s h0 (.inr none, g)) h 265 [(0, false, va_rf a0), (1, false, va_rf a1), (2, false, va_rf a2)] [] := by
  have C := X.1
  unfold fJ4_fixAfterDeletion_p265 at hf
  refine v_aload_n (pc := 265) (j := 2) C dJ4_fixAfterDeletion_265 rfl rfl ?_
  obtain ⟨x2, ex2, hf⟩ := oB hf
  refine v_call (pc := 266) (d_S (pc := 266) C (As := [va_rf a2]) (rest := []) q1467 q1468 yk_J4_leftOf rfl (by decide) (by decide) (Nat.le_trans aw_0 (by decide)) rfl (mJ4_leftOf C.st ex2) dJ4_fixAfterDeletion_266) ?_
  obtain ⟨x5, ex5, hf⟩ := oB hf
  refine v_call (pc := 269) (d_S (pc := 269) C (As := [va_rf x2]) (rest := []) q1473 q1474 yk_J4_colorOf rfl (by decide) (by decide) (Nat.le_trans aw_0 (by decide)) rfl (mJ4_colorOf C.st ex5) dJ4_fixAfterDeletion_269) ?_
  refine v_iconst (pc := 272) (v := (1 : Int32)) C dJ4_fixAfterDeletion_272 rfl ?_
  refine v_icmp_ne (pc := 273) (tgt := 302) C dJ4_fixAfterDeletion_273 rfl (fun hc => ?_) (fun hc => ?_)
  · rw [if_neg hc] at hf
    exact V.sub [0, 1, 2] rfl (vJ4_fixAfterDeletion_p302 X k0 hf)
  · rw [if_pos (Decidable.of_not_not hc)] at hf
    refine v_aload_n (pc := 276) (j := 2) C dJ4_fixAfterDeletion_276 rfl rfl ?_
    obtain ⟨x8, ex8, hf⟩ := oB hf
    refine v_call (pc := 277) (d_S (pc := 277) C (As := [va_rf a2]) (rest := []) q1470 q1471 yk_J4_rightOf rfl (by decide) (by decide) (Nat.le_trans aw_0 (by decide)) rfl (mJ4_rightOf C.st ex8) dJ4_fixAfterDeletion_277) ?_
    refine v_iconst (pc := 280) (v := (1 : Int32)) C dJ4_fixAfterDeletion_280 rfl ?_
    obtain ⟨h12, ex11, hf⟩ := oB hf
    refine v_callU (pc := 281) (d_S (pc := 281) C (As := [va_rf x8, .int (1 : Int32)]) (rest := []) q1476 q1477 yk_J4_setColor rfl (by decide) (by decide) (Nat.le_trans aw_0 (by decide)) rfl (mJ4_setColor C.st ex11) dJ4_fixAfterDeletion_281) ?_
    refine v_aload_n (pc := 284) (j := 2) C dJ4_fixAfterDeletion_284 rfl rfl ?_
    refine v_iconst (pc := 285) (v := (0 : Int32)) C dJ4_fixAfterDeletion_285 rfl ?_
    obtain ⟨h15, ex14, hf⟩ := oB hf
    refine v_callU (pc := 286) (d_S (pc := 286) C (As := [va_rf a2, .int (0 : Int32)]) (rest := []) q1476 q1477 yk_J4_setColor rfl (by decide) (by decide) (Nat.le_trans aw_0 (by decide)) rfl (mJ4_setColor C.st ex14) dJ4_fixAfterDeletion_286) ?_
    refine v_aload_n (pc := 289) (j := 0) C dJ4_fixAfterDeletion_289 rfl rfl ?_
    refine v_aload_n (pc := 290) (j := 2) C dJ4_fixAfterDeletion_290 rfl rfl ?_
    obtain ⟨b16, eb16, hf⟩ := oB hf
    obtain ⟨rb16, _, kb16⟩ := aIs_eq eb16
    obtain ⟨h18, ex17, hf⟩ := oB hf
    refine v_callU (pc := 291) (d_V (pc := 291) C (As := [va_rf a2]) (rest := []) rb16 kb16 nt_16 q1479 yi_J4_rotateLeft_java_util_TreeMap yk_J4_rotateLeft rfl (by decide) (by decide) (Nat.le_trans aw_0 (by decide)) rfl (mJ4_rotateLeft C.st ex17) dJ4_fixAfterDeletion_291) ?_
    refine v_aload_n (pc := 294) (j := 1) C dJ4_fixAfterDeletion_294 rfl rfl ?_
    obtain ⟨x20, ex20, hf⟩ := oB hf
    refine v_call (pc := 295) (d_S (pc := 295) C (As := [va_rf a1]) (rest := []) q1464 q1465 yk_J4_parentOf rfl (by decide) (by decide) (Nat.le_trans aw_0 (by decide)) rfl (mJ4_parentOf C.st ex20) dJ4_fixAfterDeletion_295) ?_
    obtain ⟨x23, ex23, hf⟩ := oB hf
    refine v_call (pc := 298) (d_S (pc := 298) C (As := [va_rf x20]) (rest := []) q1467 q1468 yk_J4_leftOf rfl (by decide) (by decide) (Nat.le_trans aw_0 (by decide)) rfl (mJ4_leftOf C.st ex23) dJ4_fixAfterDeletion_298) ?_
    refine v_astore_n (pc := 301) (lv' := [(2, false, va_rf x23), (0, false, va_rf a0), (1, false, va_rf a1)]) C dJ4_fixAfterDeletion_301 rfl (by decide) rfl ?_
    exact V.sub [1, 2, 0] rfl (vJ4_fixAfterDeletion_p302 X k0 hf)
def fJ4_fixAfterDeletion_p230 (D : aD) (K0 : aH → (Option Nat) → (Option Nat) → Option (aH)) (h : aH) (a0 : Option Nat) (a1 : Option Nat) (a2 : Option Nat) : Option (aH) :=
  (fJ4_rightOf D h a2).bind fun x2 =>
  (fJ4_colorOf D h x2).bind fun x5 =>
  if x5 = (1 : Int32) then
  ((fJ4_leftOf D h a2).bind fun x8 =>
  (fJ4_colorOf D h x8).bind fun x11 =>
  if x11 = (1 : Int32) then
  ((fJ4_setColor D h a2 (0 : Int32)).bind fun h15 =>
  (fJ4_parentOf D h15 a1).bind fun x17 =>
  K0 h15 a0 x17)
  else
  (fJ4_fixAfterDeletion_p265 D K0 h a0 a1 a2))
  else
  (fJ4_fixAfterDeletion_p265 D K0 h a0 a1 a2)
theorem vJ4_fixAfterDeletion_p230 {h : aH} {K0 : aH → (Option Nat) → (Option Nat) → Option (aH)} {a0 : Option Nat} {a1 : Option Nat} {a2 : Option Nat} {g : aH} (X : aX p l R s m meth c D n0 s0 yJ4_fixAfterDeletion cJ4_fixAfterDeletion 1 22 3 (none) h0) (k0 : ∀ (h : aH) (a0 : Option Nat) (a1 : Option Nat) (g : aH), K0 h a0 a1 = some g → V p l e R s m args below meth c D n0 s0 (aEnd D below args s h0 (.inr none, g)) h 0 [(0, false, va_rf a0), (1, false, va_rf a1)] []) (hf : fJ4_fixAfterDeletion_p230 D K0 h a0 a1 a2 = some g) : V p l e R s m args below meth c D n0 s0 (aEnd D below args s h0 (.inr none, g)) h 230 [(0, false, va_rf a0), (1, false, va_rf a1), (2, false, va_rf a2)] [] := by
  have C := X.1
  unfold fJ4_fixAfterDeletion_p230 at hf
  refine v_aload_n (pc := 230) (j := 2) C dJ4_fixAfterDeletion_230 rfl rfl ?_
  obtain ⟨x2, ex2, hf⟩ := oB hf
  refine v_call (pc := 231) (d_S (pc := 231) C (As := [va_rf a2]) (rest := []) q1470 q1471 yk_J4_rightOf rfl (by decide) (by decide) (Nat.le_trans aw_0 (by decide)) rfl (mJ4_rightOf C.st ex2) dJ4_fixAfterDeletion_231) ?_
  obtain ⟨x5, ex5, hf⟩ := oB hf
  refine v_call (pc := 234) (d_S (pc := 234) C (As := [va_rf x2]) (rest := []) q1473 q1474 yk_J4_colorOf rfl (by decide) (by decide) (Nat.le_trans aw_0 (by decide)) rfl (mJ4_colorOf C.st ex5) dJ4_fixAfterDeletion_234) ?_
  refine v_iconst (pc := 237) (v := (1 : Int32)) C dJ4_fixAfterDeletion_237 rfl ?_
  refine v_icmp_ne (pc := 238) (tgt := 265) C dJ4_fixAfterDeletion_238 rfl (fun hc => ?_) (fun hc => ?_)
  · rw [if_neg hc] at hf
    exact V.sub [0, 1, 2] rfl (vJ4_fixAfterDeletion_p265 X k0 hf)
  · rw [if_pos (Decidable.of_not_not hc)] at hf
    refine v_aload_n (pc := 241) (j := 2) C dJ4_fixAfterDeletion_241 rfl rfl ?_
    obtain ⟨x8, ex8, hf⟩ := oB hf
    refine v_call (pc := 242) (d_S (pc := 242) C (As := [va_rf a2]) (rest := []) q1467 q1468 yk_J4_leftOf rfl (by decide) (by decide) (Nat.le_trans aw_0 (by decide)) rfl (mJ4_leftOf C.st ex8) dJ4_fixAfterDeletion_242) ?_
    obtain ⟨x11, ex11, hf⟩ := oB hf
    refine v_call (pc := 245) (d_S (pc := 245) C (As := [va_rf x8]) (rest := []) q1473 q1474 yk_J4_colorOf rfl (by decide) (by decide) (Nat.le_trans aw_0 (by decide)) rfl (mJ4_colorOf C.st ex11) dJ4_fixAfterDeletion_245) ?_
    refine v_iconst (pc := 248) (v := (1 : Int32)) C dJ4_fixAfterDeletion_248 rfl ?_
    refine v_icmp_ne (pc := 249) (tgt := 265) C dJ4_fixAfterDeletion_249 rfl (fun hc => ?_) (fun hc => ?_)
    · rw [if_neg hc] at hf
      exact V.sub [0, 1, 2] rfl (vJ4_fixAfterDeletion_p265 X k0 hf)
    · rw [if_pos (Decidable.of_not_not hc)] at hf
      refine v_aload_n (pc := 252) (j := 2) C dJ4_fixAfterDeletion_252 rfl rfl ?_
      refine v_iconst (pc := 253) (v := (0 : Int32)) C dJ4_fixAfterDeletion_253 rfl ?_
      obtain ⟨h15, ex14, hf⟩ := oB hf
      refine v_callU (pc := 254) (d_S (pc := 254) C (As := [va_rf a2, .int (0 : Int32)]) (rest := []) q1476 q1477 yk_J4_setColor rfl (by decide) (by decide) (Nat.le_trans aw_0 (by decide)) rfl (mJ4_setColor C.st ex14) dJ4_fixAfterDeletion_254) ?_
      refine v_aload_n (pc := 257) (j := 1) C dJ4_fixAfterDeletion_257 rfl rfl ?_
      obtain ⟨x17, ex17, hf⟩ := oB hf
      refine v_call (pc := 258) (d_S (pc := 258) C (As := [va_rf a1]) (rest := []) q1464 q1465 yk_J4_parentOf rfl (by decide) (by decide) (Nat.le_trans aw_0 (by decide)) rfl (mJ4_parentOf C.st ex17) dJ4_fixAfterDeletion_258) ?_
      refine v_astore_n (pc := 261) (lv' := [(1, false, va_rf x17), (0, false, va_rf a0), (2, false, va_rf a2)]) C dJ4_fixAfterDeletion_261 rfl (by decide) rfl ?_
      refine v_goto (pc := 262) (tgt := 342) C dJ4_fixAfterDeletion_262 rfl ?_
      refine v_goto (pc := 342) (tgt := 0) C dJ4_fixAfterDeletion_342 rfl ?_
      exact V.sub [1, 0] rfl (k0 _ _ _ _ hf)
def fJ4_fixAfterDeletion_p345 (D : aD) (h : aH) (a1 : Option Nat) : Option (aH) :=
  (fJ4_setColor D h a1 (1 : Int32)).bind fun h3 =>
  some h3
theorem vJ4_fixAfterDeletion_p345 {h : aH} {a1 : Option Nat} {g : aH} (X : aX p l R s m meth c D n0 s0 yJ4_fixAfterDeletion cJ4_fixAfterDeletion 1 22 3 (none) h0) (hf : fJ4_fixAfterDeletion_p345 D h a1 = some g) : V p l e R s m args below meth c D n0 s0 (aEnd D below args s h0 (.inr none, g)) h 345 [(1, false, va_rf a1)] [] := by
  have C := X.1
  unfold fJ4_fixAfterDeletion_p345 at hf
  refine v_aload_n (pc := 345) (j := 0) C dJ4_fixAfterDeletion_345 rfl rfl ?_
  refine v_iconst (pc := 346) (v := (1 : Int32)) C dJ4_fixAfterDeletion_346 rfl ?_
  obtain ⟨h3, ex2, hf⟩ := oB hf
  refine v_callU (pc := 347) (d_S (pc := 347) C (As := [va_rf a1, .int (1 : Int32)]) (rest := []) q1476 q1477 yk_J4_setColor rfl (by decide) (by decide) (Nat.le_trans aw_0 (by decide)) rfl (mJ4_setColor C.st ex2) dJ4_fixAfterDeletion_347) ?_
  cases hf
  exact v_return (pc := 350) C X.2.1 X.2.2.1 X.2.2.2.1 rfl dJ4_fixAfterDeletion_350
def fJ4_fixAfterDeletion_p0 (D : aD) : Nat → aH → (Option Nat) → (Option Nat) → Option (aH)
  | 0, _, _, _ => none
  | n + 1, h, a0, a1 =>
  (gR h 16 3 a0).bind fun x1 =>
  if a1 = x1 then
  (fJ4_fixAfterDeletion_p345 D h a1)
  else
  ((fJ4_colorOf D h a1).bind fun x3 =>
  if x3 = (1 : Int32) then
  ((fJ4_parentOf D h a1).bind fun x6 =>
  (fJ4_leftOf D h x6).bind fun x9 =>
  if a1 = x9 then
  ((fJ4_parentOf D h a1).bind fun x42 =>
  (fJ4_rightOf D h x42).bind fun x45 =>
  (fJ4_colorOf D h x45).bind fun x48 =>
  if x48 = 0 then
  ((fJ4_setColor D h x45 (1 : Int32)).bind fun h52 =>
  (fJ4_parentOf D h52 a1).bind fun x54 =>
  (fJ4_setColor D h52 x54 (0 : Int32)).bind fun h58 =>
  (fJ4_parentOf D h58 a1).bind fun x60 =>
  (aIs h58 16 a0).bind fun _ =>
  (fJ4_rotateLeft D h58 a0 x60).bind fun h64 =>
  (fJ4_parentOf D h64 a1).bind fun x66 =>
  (fJ4_rightOf D h64 x66).bind fun x69 =>
  fJ4_fixAfterDeletion_p71 D (fJ4_fixAfterDeletion_p0 D n) h64 a0 a1 x69)
  else
  (fJ4_fixAfterDeletion_p71 D (fJ4_fixAfterDeletion_p0 D n) h a0 a1 x45))
  else
  ((fJ4_parentOf D h a1).bind fun x12 =>
  (fJ4_leftOf D h x12).bind fun x15 =>
  (fJ4_colorOf D h x15).bind fun x18 =>
  if x18 = 0 then
  ((fJ4_setColor D h x15 (1 : Int32)).bind fun h22 =>
  (fJ4_parentOf D h22 a1).bind fun x24 =>
  (fJ4_setColor D h22 x24 (0 : Int32)).bind fun h28 =>
  (fJ4_parentOf D h28 a1).bind fun x30 =>
  (aIs h28 16 a0).bind fun _ =>
  (fJ4_rotateRight D h28 a0 x30).bind fun h34 =>
  (fJ4_parentOf D h34 a1).bind fun x36 =>
  (fJ4_leftOf D h34 x36).bind fun x39 =>
  fJ4_fixAfterDeletion_p230 D (fJ4_fixAfterDeletion_p0 D n) h34 a0 a1 x39)
  else
  (fJ4_fixAfterDeletion_p230 D (fJ4_fixAfterDeletion_p0 D n) h a0 a1 x15)))
  else
  (fJ4_fixAfterDeletion_p345 D h a1))
theorem vJ4_fixAfterDeletion_p0 (X : aX p l R s m meth c D n0 s0 yJ4_fixAfterDeletion cJ4_fixAfterDeletion 1 22 3 (none) h0) : ∀ (n : Nat) (h : aH) (a0 : Option Nat) (a1 : Option Nat) (g : aH), fJ4_fixAfterDeletion_p0 D n h a0 a1 = some g → V p l e R s m args below meth c D n0 s0 (aEnd D below args s h0 (.inr none, g)) h 0 [(0, false, va_rf a0), (1, false, va_rf a1)] [] := by
  have C := X.1
  intro n
  induction n with
  | zero =>
    intro _ _ _ _ hf
    rw [fJ4_fixAfterDeletion_p0] at hf
    cases hf
  | succ n ih =>
    intro h a0 a1 g hf
    rw [fJ4_fixAfterDeletion_p0] at hf
    refine v_aload_n (pc := 0) (j := 1) C dJ4_fixAfterDeletion_0 rfl rfl ?_
    refine v_aload_n (pc := 1) (j := 0) C dJ4_fixAfterDeletion_1 rfl rfl ?_
    obtain ⟨x1, ex1, hf⟩ := oB hf
    refine v_getF (pc := 2) C lk_J4_101 (gR_eq ex1) dJ4_fixAfterDeletion_2 ?_
    refine v_acmp_eq (pc := 5) (tgt := 345) C dJ4_fixAfterDeletion_5 rfl (fun hc => ?_) (fun hc => ?_)
    · rw [if_pos hc] at hf
      exact V.sub [1] rfl (vJ4_fixAfterDeletion_p345 X hf)
    · rw [if_neg hc] at hf
      refine v_aload_n (pc := 8) (j := 1) C dJ4_fixAfterDeletion_8 rfl rfl ?_
      obtain ⟨x3, ex3, hf⟩ := oB hf
      refine v_call (pc := 9) (d_S (pc := 9) C (As := [va_rf a1]) (rest := []) q1473 q1474 yk_J4_colorOf rfl (by decide) (by decide) (Nat.le_trans aw_0 (by decide)) rfl (mJ4_colorOf C.st ex3) dJ4_fixAfterDeletion_9) ?_
      refine v_iconst (pc := 12) (v := (1 : Int32)) C dJ4_fixAfterDeletion_12 rfl ?_
      refine v_icmp_ne (pc := 13) (tgt := 345) C dJ4_fixAfterDeletion_13 rfl (fun hc => ?_) (fun hc => ?_)
      · rw [if_neg hc] at hf
        exact V.sub [1] rfl (vJ4_fixAfterDeletion_p345 X hf)
      · rw [if_pos (Decidable.of_not_not hc)] at hf
        refine v_aload_n (pc := 16) (j := 1) C dJ4_fixAfterDeletion_16 rfl rfl ?_
        refine v_aload_n (pc := 17) (j := 1) C dJ4_fixAfterDeletion_17 rfl rfl ?_
        obtain ⟨x6, ex6, hf⟩ := oB hf
        refine v_call (pc := 18) (d_S (pc := 18) C (As := [va_rf a1]) (rest := [va_rf a1]) q1464 q1465 yk_J4_parentOf rfl (by decide) (by decide) (Nat.le_trans (aw_r aw_0) (by decide)) rfl (mJ4_parentOf C.st ex6) dJ4_fixAfterDeletion_18) ?_
        obtain ⟨x9, ex9, hf⟩ := oB hf
        refine v_call (pc := 21) (d_S (pc := 21) C (As := [va_rf x6]) (rest := [va_rf a1]) q1467 q1468 yk_J4_leftOf rfl (by decide) (by decide) (Nat.le_trans (aw_r aw_0) (by decide)) rfl (mJ4_leftOf C.st ex9) dJ4_fixAfterDeletion_21) ?_
        refine v_acmp_ne (pc := 24) (tgt := 186) C dJ4_fixAfterDeletion_24 rfl (fun hc => ?_) (fun hc => ?_)
        · rw [if_neg hc] at hf
          refine v_aload_n (pc := 186) (j := 1) C dJ4_fixAfterDeletion_186 rfl rfl ?_
          obtain ⟨x12, ex12, hf⟩ := oB hf
          refine v_call (pc := 187) (d_S (pc := 187) C (As := [va_rf a1]) (rest := []) q1464 q1465 yk_J4_parentOf rfl (by decide) (by decide) (Nat.le_trans aw_0 (by decide)) rfl (mJ4_parentOf C.st ex12) dJ4_fixAfterDeletion_187) ?_
          obtain ⟨x15, ex15, hf⟩ := oB hf
          refine v_call (pc := 190) (d_S (pc := 190) C (As := [va_rf x12]) (rest := []) q1467 q1468 yk_J4_leftOf rfl (by decide) (by decide) (Nat.le_trans aw_0 (by decide)) rfl (mJ4_leftOf C.st ex15) dJ4_fixAfterDeletion_190) ?_
          refine v_astore_n (pc := 193) (lv' := [(2, false, va_rf x15), (0, false, va_rf a0), (1, false, va_rf a1)]) C dJ4_fixAfterDeletion_193 rfl (by decide) rfl ?_
          refine v_aload_n (pc := 194) (j := 0) C dJ4_fixAfterDeletion_194 rfl rfl ?_
          obtain ⟨x18, ex18, hf⟩ := oB hf
          refine v_call (pc := 195) (d_S (pc := 195) C (As := [va_rf x15]) (rest := []) q1473 q1474 yk_J4_colorOf rfl (by decide) (by decide) (Nat.le_trans aw_0 (by decide)) rfl (mJ4_colorOf C.st ex18) dJ4_fixAfterDeletion_195) ?_
          refine v_if_ne (pc := 198) (tgt := 230) C dJ4_fixAfterDeletion_198 rfl (fun hc => ?_) (fun hc => ?_)
          · rw [if_neg hc] at hf
            exact V.sub [1, 2, 0] rfl (vJ4_fixAfterDeletion_p230 X ih hf)
          · rw [if_pos (Decidable.of_not_not hc)] at hf
            refine v_aload_n (pc := 201) (j := 0) C dJ4_fixAfterDeletion_201 rfl rfl ?_
            refine v_iconst (pc := 202) (v := (1 : Int32)) C dJ4_fixAfterDeletion_202 rfl ?_
            obtain ⟨h22, ex21, hf⟩ := oB hf
            refine v_callU (pc := 203) (d_S (pc := 203) C (As := [va_rf x15, .int (1 : Int32)]) (rest := []) q1476 q1477 yk_J4_setColor rfl (by decide) (by decide) (Nat.le_trans aw_0 (by decide)) rfl (mJ4_setColor C.st ex21) dJ4_fixAfterDeletion_203) ?_
            refine v_aload_n (pc := 206) (j := 2) C dJ4_fixAfterDeletion_206 rfl rfl ?_
            obtain ⟨x24, ex24, hf⟩ := oB hf
            refine v_call (pc := 207) (d_S (pc := 207) C (As := [va_rf a1]) (rest := []) q1464 q1465 yk_J4_parentOf rfl (by decide) (by decide) (Nat.le_trans aw_0 (by decide)) rfl (mJ4_parentOf C.st ex24) dJ4_fixAfterDeletion_207) ?_
            refine v_iconst (pc := 210) (v := (0 : Int32)) C dJ4_fixAfterDeletion_210 rfl ?_
            obtain ⟨h28, ex27, hf⟩ := oB hf
            refine v_callU (pc := 211) (d_S (pc := 211) C (As := [va_rf x24, .int (0 : Int32)]) (rest := []) q1476 q1477 yk_J4_setColor rfl (by decide) (by decide) (Nat.le_trans aw_0 (by decide)) rfl (mJ4_setColor C.st ex27) dJ4_fixAfterDeletion_211) ?_
            refine v_aload_n (pc := 214) (j := 1) C dJ4_fixAfterDeletion_214 rfl rfl ?_
            refine v_aload_n (pc := 215) (j := 2) C dJ4_fixAfterDeletion_215 rfl rfl ?_
            obtain ⟨x30, ex30, hf⟩ := oB hf
            refine v_call (pc := 216) (d_S (pc := 216) C (As := [va_rf a1]) (rest := [va_rf a0]) q1464 q1465 yk_J4_parentOf rfl (by decide) (by decide) (Nat.le_trans (aw_r aw_0) (by decide)) rfl (mJ4_parentOf C.st ex30) dJ4_fixAfterDeletion_216) ?_
            obtain ⟨b32, eb32, hf⟩ := oB hf
            obtain ⟨rb32, _, kb32⟩ := aIs_eq eb32
            obtain ⟨h34, ex33, hf⟩ := oB hf
            refine v_callU (pc := 219) (d_V (pc := 219) C (As := [va_rf x30]) (rest := []) rb32 kb32 nt_16 q1483 yi_J4_rotateRight_java_util_TreeMap yk_J4_rotateRight rfl (by decide) (by decide) (Nat.le_trans aw_0 (by decide)) rfl (mJ4_rotateRight C.st ex33) dJ4_fixAfterDeletion_219) ?_
            refine v_aload_n (pc := 222) (j := 2) C dJ4_fixAfterDeletion_222 rfl rfl ?_
            obtain ⟨x36, ex36, hf⟩ := oB hf
            refine v_call (pc := 223) (d_S (pc := 223) C (As := [va_rf a1]) (rest := []) q1464 q1465 yk_J4_parentOf rfl (by decide) (by decide) (Nat.le_trans aw_0 (by decide)) rfl (mJ4_parentOf C.st ex36) dJ4_fixAfterDeletion_223) ?_
            obtain ⟨x39, ex39, hf⟩ := oB hf
            refine v_call (pc := 226) (d_S (pc := 226) C (As := [va_rf x36]) (rest := []) q1467 q1468 yk_J4_leftOf rfl (by decide) (by decide) (Nat.le_trans aw_0 (by decide)) rfl (mJ4_leftOf C.st ex39) dJ4_fixAfterDeletion_226) ?_
            refine v_astore_n (pc := 229) (lv' := [(2, false, va_rf x39), (0, false, va_rf a0), (1, false, va_rf a1)]) C dJ4_fixAfterDeletion_229 rfl (by decide) rfl ?_
            exact V.sub [1, 2, 0] rfl (vJ4_fixAfterDeletion_p230 X ih hf)
        · rw [if_pos (Decidable.of_not_not hc)] at hf
          refine v_aload_n (pc := 27) (j := 1) C dJ4_fixAfterDeletion_27 rfl rfl ?_
          obtain ⟨x42, ex42, hf⟩ := oB hf
          refine v_call (pc := 28) (d_S (pc := 28) C (As := [va_rf a1]) (rest := []) q1464 q1465 yk_J4_parentOf rfl (by decide) (by decide) (Nat.le_trans aw_0 (by decide)) rfl (mJ4_parentOf C.st ex42) dJ4_fixAfterDeletion_28) ?_
          obtain ⟨x45, ex45, hf⟩ := oB hf
          refine v_call (pc := 31) (d_S (pc := 31) C (As := [va_rf x42]) (rest := []) q1470 q1471 yk_J4_rightOf rfl (by decide) (by decide) (Nat.le_trans aw_0 (by decide)) rfl (mJ4_rightOf C.st ex45) dJ4_fixAfterDeletion_31) ?_
          refine v_astore_n (pc := 34) (lv' := [(2, false, va_rf x45), (0, false, va_rf a0), (1, false, va_rf a1)]) C dJ4_fixAfterDeletion_34 rfl (by decide) rfl ?_
          refine v_aload_n (pc := 35) (j := 0) C dJ4_fixAfterDeletion_35 rfl rfl ?_
          obtain ⟨x48, ex48, hf⟩ := oB hf
          refine v_call (pc := 36) (d_S (pc := 36) C (As := [va_rf x45]) (rest := []) q1473 q1474 yk_J4_colorOf rfl (by decide) (by decide) (Nat.le_trans aw_0 (by decide)) rfl (mJ4_colorOf C.st ex48) dJ4_fixAfterDeletion_36) ?_
          refine v_if_ne (pc := 39) (tgt := 71) C dJ4_fixAfterDeletion_39 rfl (fun hc => ?_) (fun hc => ?_)
          · rw [if_neg hc] at hf
            exact V.sub [1, 2, 0] rfl (vJ4_fixAfterDeletion_p71 X ih hf)
          · rw [if_pos (Decidable.of_not_not hc)] at hf
            refine v_aload_n (pc := 42) (j := 0) C dJ4_fixAfterDeletion_42 rfl rfl ?_
            refine v_iconst (pc := 43) (v := (1 : Int32)) C dJ4_fixAfterDeletion_43 rfl ?_
            obtain ⟨h52, ex51, hf⟩ := oB hf
            refine v_callU (pc := 44) (d_S (pc := 44) C (As := [va_rf x45, .int (1 : Int32)]) (rest := []) q1476 q1477 yk_J4_setColor rfl (by decide) (by decide) (Nat.le_trans aw_0 (by decide)) rfl (mJ4_setColor C.st ex51) dJ4_fixAfterDeletion_44) ?_
            refine v_aload_n (pc := 47) (j := 2) C dJ4_fixAfterDeletion_47 rfl rfl ?_
            obtain ⟨x54, ex54, hf⟩ := oB hf
            refine v_call (pc := 48) (d_S (pc := 48) C (As := [va_rf a1]) (rest := []) q1464 q1465 yk_J4_parentOf rfl (by decide) (by decide) (Nat.le_trans aw_0 (by decide)) rfl (mJ4_parentOf C.st ex54) dJ4_fixAfterDeletion_48) ?_
            refine v_iconst (pc := 51) (v := (0 : Int32)) C dJ4_fixAfterDeletion_51 rfl ?_
            obtain ⟨h58, ex57, hf⟩ := oB hf
            refine v_callU (pc := 52) (d_S (pc := 52) C (As := [va_rf x54, .int (0 : Int32)]) (rest := []) q1476 q1477 yk_J4_setColor rfl (by decide) (by decide) (Nat.le_trans aw_0 (by decide)) rfl (mJ4_setColor C.st ex57) dJ4_fixAfterDeletion_52) ?_
            refine v_aload_n (pc := 55) (j := 1) C dJ4_fixAfterDeletion_55 rfl rfl ?_
            refine v_aload_n (pc := 56) (j := 2) C dJ4_fixAfterDeletion_56 rfl rfl ?_
            obtain ⟨x60, ex60, hf⟩ := oB hf
            refine v_call (pc := 57) (d_S (pc := 57) C (As := [va_rf a1]) (rest := [va_rf a0]) q1464 q1465 yk_J4_parentOf rfl (by decide) (by decide) (Nat.le_trans (aw_r aw_0) (by decide)) rfl (mJ4_parentOf C.st ex60) dJ4_fixAfterDeletion_57) ?_
            obtain ⟨b62, eb62, hf⟩ := oB hf
            obtain ⟨rb62, _, kb62⟩ := aIs_eq eb62
            obtain ⟨h64, ex63, hf⟩ := oB hf
            refine v_callU (pc := 60) (d_V (pc := 60) C (As := [va_rf x60]) (rest := []) rb62 kb62 nt_16 q1479 yi_J4_rotateLeft_java_util_TreeMap yk_J4_rotateLeft rfl (by decide) (by decide) (Nat.le_trans aw_0 (by decide)) rfl (mJ4_rotateLeft C.st ex63) dJ4_fixAfterDeletion_60) ?_
            refine v_aload_n (pc := 63) (j := 2) C dJ4_fixAfterDeletion_63 rfl rfl ?_
            obtain ⟨x66, ex66, hf⟩ := oB hf
            refine v_call (pc := 64) (d_S (pc := 64) C (As := [va_rf a1]) (rest := []) q1464 q1465 yk_J4_parentOf rfl (by decide) (by decide) (Nat.le_trans aw_0 (by decide)) rfl (mJ4_parentOf C.st ex66) dJ4_fixAfterDeletion_64) ?_
            obtain ⟨x69, ex69, hf⟩ := oB hf
            refine v_call (pc := 67) (d_S (pc := 67) C (As := [va_rf x66]) (rest := []) q1470 q1471 yk_J4_rightOf rfl (by decide) (by decide) (Nat.le_trans aw_0 (by decide)) rfl (mJ4_rightOf C.st ex69) dJ4_fixAfterDeletion_67) ?_
            refine v_astore_n (pc := 70) (lv' := [(2, false, va_rf x69), (0, false, va_rf a0), (1, false, va_rf a1)]) C dJ4_fixAfterDeletion_70 rfl (by decide) rfl ?_
            exact V.sub [1, 2, 0] rfl (vJ4_fixAfterDeletion_p71 X ih hf)
def fJ4_fixAfterDeletion (D : aD) (h : aH) (a0 : Option Nat) (a1 : Option Nat) : Option (aH) :=
  fJ4_fixAfterDeletion_p0 D FU h a0 a1
theorem vJ4_fixAfterDeletion {h : aH} {a0 : Option Nat} {a1 : Option Nat} {g : aH} (X : aX p l R s m meth c D n0 s0 yJ4_fixAfterDeletion cJ4_fixAfterDeletion 1 22 3 (none) h0) (hf : fJ4_fixAfterDeletion D h a0 a1 = some g) : V p l e R s m args below meth c D n0 s0 (aEnd D below args s h0 (.inr none, g)) h 0 [(0, false, va_rf a0), (1, false, va_rf a1)] [] := by
  have C := X.1
  unfold fJ4_fixAfterDeletion at hf
  exact V.sub [0, 1] rfl (vJ4_fixAfterDeletion_p0 X _ _ _ _ _ hf)
theorem mJ4_fixAfterDeletion {l : Launch} {D : aD} {h : aH} {a0 : Option Nat} {a1 : Option Nat} {g : aH} (hst : l.stackTraces = false) (hf : fJ4_fixAfterDeletion D h a0 a1 = some g) : aM l D yJ4_fixAfterDeletion cJ4_fixAfterDeletion 3 (none) 1 22 [va_rf a0, va_rf a1] h (.inr none, g) :=
  aM.ofX [(false, va_rf a0), (false, va_rf a1)] rfl (ap_r (ap_r ap_0)) (by decide +kernel) hst (al_of (aw_r (aw_r aw_0)) (by decide)) fun p e s m args below meth c X => V.sub (lv' := [(0, false, va_rf a0), (1, false, va_rf a1)]) [0, 1] rfl (vJ4_fixAfterDeletion X hf)
def fJ4_deleteEntry_p133 (D : aD) (h : aH) (a0 : Option Nat) (a1 : Option Nat) (a2 : Option Nat) : Option (aH) :=
  (pF D h 17 4 a1 (va_rf none)).bind fun h1 =>
  (pF D h1 17 3 a1 (va_rf none)).bind fun h2 =>
  (pF D h2 17 2 a1 (va_rf none)).bind fun h3 =>
  (gI h3 17 5 a1).bind fun x4 =>
  if x4 = (1 : Int32) then
  ((aIs h3 16 a0).bind fun _ =>
  (fJ4_fixAfterDeletion D h3 a0 a2).bind fun h7 =>
  some h7)
  else
  (some h3)
theorem vJ4_deleteEntry_p133 {h : aH} {a0 : Option Nat} {a1 : Option Nat} {a2 : Option Nat} {g : aH} (X : aX p l R s m meth c D n0 s0 yJ4_deleteEntry cJ4_deleteEntry 2 44 3 (none) h0) (hf : fJ4_deleteEntry_p133 D h a0 a1 a2 = some g) : V p l e R s m args below meth c D n0 s0 (aEnd D below args s h0 (.inr none, g)) h 133 [(0, false, va_rf a0), (1, false, va_rf a1), (2, false, va_rf a2)] [] := by
  have C := X.1
  unfold fJ4_deleteEntry_p133 at hf
  refine v_aload_n (pc := 133) (j := 1) C dJ4_deleteEntry_133 rfl rfl ?_
  refine v_aload_n (pc := 134) (j := 1) C dJ4_deleteEntry_134 rfl rfl ?_
  refine v_aload_n (pc := 135) (j := 1) C dJ4_deleteEntry_135 rfl rfl ?_
  refine v_null (pc := 136) C dJ4_deleteEntry_136 ?_
  refine v_dup_x1 (pc := 137) C dJ4_deleteEntry_137 (va_rfc _) (va_rfc _) ?_
  obtain ⟨h1, eh1, hf⟩ := oB hf
  refine v_putF (pc := 138) C lk_J4_124 tyJ34 tyJ34_ok nmJ34 (tyJ34_ok 4 (by decide)) rfl ft_o eh1 dJ4_deleteEntry_138 ?_
  refine v_dup_x1 (pc := 141) C dJ4_deleteEntry_141 (va_rfc _) (va_rfc _) ?_
  obtain ⟨h2, eh2, hf⟩ := oB hf
  refine v_putF (pc := 142) C lk_J4_114 tyJ34 tyJ34_ok nmJ34 (tyJ34_ok 3 (by decide)) rfl ft_o eh2 dJ4_deleteEntry_142 ?_
  obtain ⟨h3, eh3, hf⟩ := oB hf
  refine v_putF (pc := 145) C lk_J4_111 tyJ34 tyJ34_ok nmJ34 (tyJ34_ok 2 (by decide)) rfl ft_o eh3 dJ4_deleteEntry_145 ?_
  refine v_aload_n (pc := 148) (j := 1) C dJ4_deleteEntry_148 rfl rfl ?_
  obtain ⟨x4, ex4, hf⟩ := oB hf
  refine v_getF (pc := 149) C lk_J4_290 (gI_eq ex4) dJ4_deleteEntry_149 ?_
  refine v_iconst (pc := 152) (v := (1 : Int32)) C dJ4_deleteEntry_152 rfl ?_
  refine v_icmp_ne (pc := 153) (tgt := 245) C dJ4_deleteEntry_153 rfl (fun hc => ?_) (fun hc => ?_)
  · rw [if_neg hc] at hf
    cases hf
    exact v_return (pc := 245) C X.2.1 X.2.2.1 X.2.2.2.1 rfl dJ4_deleteEntry_245
  · rw [if_pos (Decidable.of_not_not hc)] at hf
    refine v_aload_n (pc := 156) (j := 0) C dJ4_deleteEntry_156 rfl rfl ?_
    refine v_aload_n (pc := 157) (j := 2) C dJ4_deleteEntry_157 rfl rfl ?_
    obtain ⟨b5, eb5, hf⟩ := oB hf
    obtain ⟨rb5, _, kb5⟩ := aIs_eq eb5
    obtain ⟨h7, ex6, hf⟩ := oB hf
    refine v_callU (pc := 158) (d_V (pc := 158) C (As := [va_rf a2]) (rest := []) rb5 kb5 nt_16 q2119 yi_J4_fixAfterDeletion_java_util_TreeMap yk_J4_fixAfterDeletion rfl (by decide) (by decide) (Nat.le_trans aw_0 (by decide)) rfl (mJ4_fixAfterDeletion C.st ex6) dJ4_deleteEntry_158) ?_
    refine v_goto (pc := 161) (tgt := 245) C dJ4_deleteEntry_161 rfl ?_
    cases hf
    exact v_return (pc := 245) C X.2.1 X.2.2.1 X.2.2.2.1 rfl dJ4_deleteEntry_245
def fJ4_deleteEntry_p240 (D : aD) (h : aH) (a1 : Option Nat) : Option (aH) :=
  (pF D h 17 4 a1 (va_rf none)).bind fun h1 =>
  some h1
theorem vJ4_deleteEntry_p240 {h : aH} {a1 : Option Nat} {g : aH} (X : aX p l R s m meth c D n0 s0 yJ4_deleteEntry cJ4_deleteEntry 2 44 3 (none) h0) (hf : fJ4_deleteEntry_p240 D h a1 = some g) : V p l e R s m args below meth c D n0 s0 (aEnd D below args s h0 (.inr none, g)) h 240 [(1, false, va_rf a1)] [] := by
  have C := X.1
  unfold fJ4_deleteEntry_p240 at hf
  refine v_aload_n (pc := 240) (j := 0) C dJ4_deleteEntry_240 rfl rfl ?_
  refine v_null (pc := 241) C dJ4_deleteEntry_241 ?_
  obtain ⟨h1, eh1, hf⟩ := oB hf
  refine v_putF (pc := 242) C lk_J4_124 tyJ34 tyJ34_ok nmJ34 (tyJ34_ok 4 (by decide)) rfl ft_o eh1 dJ4_deleteEntry_242 ?_
  cases hf
  exact v_return (pc := 245) C X.2.1 X.2.2.1 X.2.2.2.1 rfl dJ4_deleteEntry_245
def fJ4_deleteEntry_p192 (D : aD) (h : aH) (a1 : Option Nat) : Option (aH) :=
  (gR h 17 4 a1).bind fun x1 =>
  if x1 = none then
  (some h)
  else
  ((gR h 17 4 a1).bind fun x2 =>
  (gR h 17 2 x2).bind fun x3 =>
  if a1 = x3 then
  ((gR h 17 4 a1).bind fun x8 =>
  (pF D h 17 2 x8 (va_rf none)).bind fun h9 =>
  fJ4_deleteEntry_p240 D h9 a1)
  else
  ((gR h 17 4 a1).bind fun x4 =>
  (gR h 17 3 x4).bind fun x5 =>
  if a1 = x5 then
  ((gR h 17 4 a1).bind fun x6 =>
  (pF D h 17 3 x6 (va_rf none)).bind fun h7 =>
  fJ4_deleteEntry_p240 D h7 a1)
  else
  (fJ4_deleteEntry_p240 D h a1)))
theorem vJ4_deleteEntry_p192 {h : aH} {a1 : Option Nat} {g : aH} (X : aX p l R s m meth c D n0 s0 yJ4_deleteEntry cJ4_deleteEntry 2 44 3 (none) h0) (hf : fJ4_deleteEntry_p192 D h a1 = some g) : V p l e R s m args below meth c D n0 s0 (aEnd D below args s h0 (.inr none, g)) h 192 [(1, false, va_rf a1)] [] := by
  have C := X.1
  unfold fJ4_deleteEntry_p192 at hf
  refine v_aload_n (pc := 192) (j := 0) C dJ4_deleteEntry_192 rfl rfl ?_
  obtain ⟨x1, ex1, hf⟩ := oB hf
  refine v_getF (pc := 193) C lk_J4_124 (gR_eq ex1) dJ4_deleteEntry_193 ?_
  refine v_ifnull (pc := 196) (tgt := 245) C dJ4_deleteEntry_196 rfl (fun hc => ?_) (fun hc => ?_)
  · rw [if_pos hc] at hf
    cases hf
    exact v_return (pc := 245) C X.2.1 X.2.2.1 X.2.2.2.1 rfl dJ4_deleteEntry_245
  · rw [if_neg hc] at hf
    refine v_aload_n (pc := 199) (j := 0) C dJ4_deleteEntry_199 rfl rfl ?_
    refine v_aload_n (pc := 200) (j := 0) C dJ4_deleteEntry_200 rfl rfl ?_
    obtain ⟨x2, ex2, hf⟩ := oB hf
    refine v_getF (pc := 201) C lk_J4_124 (gR_eq ex2) dJ4_deleteEntry_201 ?_
    obtain ⟨x3, ex3, hf⟩ := oB hf
    refine v_getF (pc := 204) C lk_J4_111 (gR_eq ex3) dJ4_deleteEntry_204 ?_
    refine v_acmp_ne (pc := 207) (tgt := 221) C dJ4_deleteEntry_207 rfl (fun hc => ?_) (fun hc => ?_)
    · rw [if_neg hc] at hf
      refine v_aload_n (pc := 221) (j := 0) C dJ4_deleteEntry_221 rfl rfl ?_
      refine v_aload_n (pc := 222) (j := 0) C dJ4_deleteEntry_222 rfl rfl ?_
      obtain ⟨x4, ex4, hf⟩ := oB hf
      refine v_getF (pc := 223) C lk_J4_124 (gR_eq ex4) dJ4_deleteEntry_223 ?_
      obtain ⟨x5, ex5, hf⟩ := oB hf
      refine v_getF (pc := 226) C lk_J4_114 (gR_eq ex5) dJ4_deleteEntry_226 ?_
      refine v_acmp_ne (pc := 229) (tgt := 240) C dJ4_deleteEntry_229 rfl (fun hc => ?_) (fun hc => ?_)
      · rw [if_neg hc] at hf
        exact V.sub [0] rfl (vJ4_deleteEntry_p240 X hf)
      · rw [if_pos (Decidable.of_not_not hc)] at hf
        refine v_aload_n (pc := 232) (j := 0) C dJ4_deleteEntry_232 rfl rfl ?_
        obtain ⟨x6, ex6, hf⟩ := oB hf
        refine v_getF (pc := 233) C lk_J4_124 (gR_eq ex6) dJ4_deleteEntry_233 ?_
        refine v_null (pc := 236) C dJ4_deleteEntry_236 ?_
        obtain ⟨h7, eh7, hf⟩ := oB hf
        refine v_putF (pc := 237) C lk_J4_114 tyJ34 tyJ34_ok nmJ34 (tyJ34_ok 3 (by decide)) rfl ft_o eh7 dJ4_deleteEntry_237 ?_
        exact V.sub [0] rfl (vJ4_deleteEntry_p240 X hf)
    · rw [if_pos (Decidable.of_not_not hc)] at hf
      refine v_aload_n (pc := 210) (j := 0) C dJ4_deleteEntry_210 rfl rfl ?_
      obtain ⟨x8, ex8, hf⟩ := oB hf
      refine v_getF (pc := 211) C lk_J4_124 (gR_eq ex8) dJ4_deleteEntry_211 ?_
      refine v_null (pc := 214) C dJ4_deleteEntry_214 ?_
      obtain ⟨h9, eh9, hf⟩ := oB hf
      refine v_putF (pc := 215) C lk_J4_111 tyJ34 tyJ34_ok nmJ34 (tyJ34_ok 2 (by decide)) rfl ft_o eh9 dJ4_deleteEntry_215 ?_
      refine v_goto (pc := 218) (tgt := 240) C dJ4_deleteEntry_218 rfl ?_
      exact V.sub [0] rfl (vJ4_deleteEntry_p240 X hf)
def fJ4_deleteEntry_p75 (D : aD) (h : aH) (a0 : Option Nat) (a1 : Option Nat) (t0 : Option Nat) : Option (aH) :=
  if t0 = none then
  ((gR h 17 4 a1).bind fun x1 =>
  if x1 = none then
  ((pF D h 16 3 a0 (va_rf none)).bind fun h6 =>
  some h6)
  else
  ((gI h 17 5 a1).bind fun x2 =>
  if x2 = (1 : Int32) then
  ((aIs h 16 a0).bind fun _ =>
  (fJ4_fixAfterDeletion D h a0 a1).bind fun h5 =>
  fJ4_deleteEntry_p192 D h5 a1)
  else
  (fJ4_deleteEntry_p192 D h a1)))
  else
  ((gR h 17 4 a1).bind fun x7 =>
  (pF D h 17 4 t0 (va_rf x7)).bind fun h8 =>
  (gR h8 17 4 a1).bind fun x9 =>
  if x9 = none then
  ((pF D h8 16 3 a0 (va_rf t0)).bind fun h16 =>
  fJ4_deleteEntry_p133 D h16 a0 a1 t0)
  else
  ((gR h8 17 4 a1).bind fun x10 =>
  (gR h8 17 2 x10).bind fun x11 =>
  if a1 = x11 then
  ((gR h8 17 4 a1).bind fun x14 =>
  (pF D h8 17 2 x14 (va_rf t0)).bind fun h15 =>
  fJ4_deleteEntry_p133 D h15 a0 a1 t0)
  else
  ((gR h8 17 4 a1).bind fun x12 =>
  (pF D h8 17 3 x12 (va_rf t0)).bind fun h13 =>
  fJ4_deleteEntry_p133 D h13 a0 a1 t0)))
theorem vJ4_deleteEntry_p75 {h : aH} {a0 : Option Nat} {a1 : Option Nat} {t0 : Option Nat} {g : aH} (X : aX p l R s m meth c D n0 s0 yJ4_deleteEntry cJ4_deleteEntry 2 44 3 (none) h0) (hf : fJ4_deleteEntry_p75 D h a0 a1 t0 = some g) : V p l e R s m args below meth c D n0 s0 (aEnd D below args s h0 (.inr none, g)) h 75 [(0, false, va_rf a0), (1, false, va_rf a1)] [va_rf t0] := by
  have C := X.1
  unfold fJ4_deleteEntry_p75 at hf
  refine v_astore_n (pc := 75) (lv' := [(2, false, va_rf t0), (0, false, va_rf a0), (1, false, va_rf a1)]) C dJ4_deleteEntry_75 rfl (by decide) rfl ?_
  refine v_aload_n (pc := 76) (j := 0) C dJ4_deleteEntry_76 rfl rfl ?_
  refine v_ifnull (pc := 77) (tgt := 164) C dJ4_deleteEntry_77 rfl (fun hc => ?_) (fun hc => ?_)
  · rw [if_pos hc] at hf
    refine v_aload_n (pc := 164) (j := 2) C dJ4_deleteEntry_164 rfl rfl ?_
    obtain ⟨x1, ex1, hf⟩ := oB hf
    refine v_getF (pc := 165) C lk_J4_124 (gR_eq ex1) dJ4_deleteEntry_165 ?_
    refine v_ifnonnull (pc := 168) (tgt := 179) C dJ4_deleteEntry_168 rfl (fun hc => ?_) (fun hc => ?_)
    · rw [if_neg hc] at hf
      refine v_aload_n (pc := 179) (j := 2) C dJ4_deleteEntry_179 rfl rfl ?_
      obtain ⟨x2, ex2, hf⟩ := oB hf
      refine v_getF (pc := 180) C lk_J4_290 (gI_eq ex2) dJ4_deleteEntry_180 ?_
      refine v_iconst (pc := 183) (v := (1 : Int32)) C dJ4_deleteEntry_183 rfl ?_
      refine v_icmp_ne (pc := 184) (tgt := 192) C dJ4_deleteEntry_184 rfl (fun hc => ?_) (fun hc => ?_)
      · rw [if_neg hc] at hf
        exact V.sub [2] rfl (vJ4_deleteEntry_p192 X hf)
      · rw [if_pos (Decidable.of_not_not hc)] at hf
        refine v_aload_n (pc := 187) (j := 1) C dJ4_deleteEntry_187 rfl rfl ?_
        refine v_aload_n (pc := 188) (j := 2) C dJ4_deleteEntry_188 rfl rfl ?_
        obtain ⟨b3, eb3, hf⟩ := oB hf
        obtain ⟨rb3, _, kb3⟩ := aIs_eq eb3
        obtain ⟨h5, ex4, hf⟩ := oB hf
        refine v_callU (pc := 189) (d_V (pc := 189) C (As := [va_rf a1]) (rest := []) rb3 kb3 nt_16 q2119 yi_J4_fixAfterDeletion_java_util_TreeMap yk_J4_fixAfterDeletion rfl (by decide) (by decide) (Nat.le_trans aw_0 (by decide)) rfl (mJ4_fixAfterDeletion C.st ex4) dJ4_deleteEntry_189) ?_
        exact V.sub [2] rfl (vJ4_deleteEntry_p192 X hf)
    · rw [if_pos hc] at hf
      refine v_aload_n (pc := 171) (j := 1) C dJ4_deleteEntry_171 rfl rfl ?_
      refine v_null (pc := 172) C dJ4_deleteEntry_172 ?_
      obtain ⟨h6, eh6, hf⟩ := oB hf
      refine v_putF (pc := 173) C lk_J4_101 tyJ4 tyJ4_ok nmJ4 (tyJ4_ok 3 (by decide)) rfl ft_o eh6 dJ4_deleteEntry_173 ?_
      refine v_goto (pc := 176) (tgt := 245) C dJ4_deleteEntry_176 rfl ?_
      cases hf
      exact v_return (pc := 245) C X.2.1 X.2.2.1 X.2.2.2.1 rfl dJ4_deleteEntry_245
  · rw [if_neg hc] at hf
    refine v_aload_n (pc := 80) (j := 0) C dJ4_deleteEntry_80 rfl rfl ?_
    refine v_aload_n (pc := 81) (j := 2) C dJ4_deleteEntry_81 rfl rfl ?_
    obtain ⟨x7, ex7, hf⟩ := oB hf
    refine v_getF (pc := 82) C lk_J4_124 (gR_eq ex7) dJ4_deleteEntry_82 ?_
    obtain ⟨h8, eh8, hf⟩ := oB hf
    refine v_putF (pc := 85) C lk_J4_124 tyJ34 tyJ34_ok nmJ34 (tyJ34_ok 4 (by decide)) rfl ft_o eh8 dJ4_deleteEntry_85 ?_
    refine v_aload_n (pc := 88) (j := 2) C dJ4_deleteEntry_88 rfl rfl ?_
    obtain ⟨x9, ex9, hf⟩ := oB hf
    refine v_getF (pc := 89) C lk_J4_124 (gR_eq ex9) dJ4_deleteEntry_89 ?_
    refine v_ifnonnull (pc := 92) (tgt := 103) C dJ4_deleteEntry_92 rfl (fun hc => ?_) (fun hc => ?_)
    · rw [if_neg hc] at hf
      refine v_aload_n (pc := 103) (j := 2) C dJ4_deleteEntry_103 rfl rfl ?_
      refine v_aload_n (pc := 104) (j := 2) C dJ4_deleteEntry_104 rfl rfl ?_
      obtain ⟨x10, ex10, hf⟩ := oB hf
      refine v_getF (pc := 105) C lk_J4_124 (gR_eq ex10) dJ4_deleteEntry_105 ?_
      obtain ⟨x11, ex11, hf⟩ := oB hf
      refine v_getF (pc := 108) C lk_J4_111 (gR_eq ex11) dJ4_deleteEntry_108 ?_
      refine v_acmp_ne (pc := 111) (tgt := 125) C dJ4_deleteEntry_111 rfl (fun hc => ?_) (fun hc => ?_)
      · rw [if_neg hc] at hf
        refine v_aload_n (pc := 125) (j := 2) C dJ4_deleteEntry_125 rfl rfl ?_
        obtain ⟨x12, ex12, hf⟩ := oB hf
        refine v_getF (pc := 126) C lk_J4_124 (gR_eq ex12) dJ4_deleteEntry_126 ?_
        refine v_aload_n (pc := 129) (j := 0) C dJ4_deleteEntry_129 rfl rfl ?_
        obtain ⟨h13, eh13, hf⟩ := oB hf
        refine v_putF (pc := 130) C lk_J4_114 tyJ34 tyJ34_ok nmJ34 (tyJ34_ok 3 (by decide)) rfl ft_o eh13 dJ4_deleteEntry_130 ?_
        exact V.sub [1, 2, 0] rfl (vJ4_deleteEntry_p133 X hf)
      · rw [if_pos (Decidable.of_not_not hc)] at hf
        refine v_aload_n (pc := 114) (j := 2) C dJ4_deleteEntry_114 rfl rfl ?_
        obtain ⟨x14, ex14, hf⟩ := oB hf
        refine v_getF (pc := 115) C lk_J4_124 (gR_eq ex14) dJ4_deleteEntry_115 ?_
        refine v_aload_n (pc := 118) (j := 0) C dJ4_deleteEntry_118 rfl rfl ?_
        obtain ⟨h15, eh15, hf⟩ := oB hf
        refine v_putF (pc := 119) C lk_J4_111 tyJ34 tyJ34_ok nmJ34 (tyJ34_ok 2 (by decide)) rfl ft_o eh15 dJ4_deleteEntry_119 ?_
        refine v_goto (pc := 122) (tgt := 133) C dJ4_deleteEntry_122 rfl ?_
        exact V.sub [1, 2, 0] rfl (vJ4_deleteEntry_p133 X hf)
    · rw [if_pos hc] at hf
      refine v_aload_n (pc := 95) (j := 1) C dJ4_deleteEntry_95 rfl rfl ?_
      refine v_aload_n (pc := 96) (j := 0) C dJ4_deleteEntry_96 rfl rfl ?_
      obtain ⟨h16, eh16, hf⟩ := oB hf
      refine v_putF (pc := 97) C lk_J4_101 tyJ4 tyJ4_ok nmJ4 (tyJ4_ok 3 (by decide)) rfl ft_o eh16 dJ4_deleteEntry_97 ?_
      refine v_goto (pc := 100) (tgt := 133) C dJ4_deleteEntry_100 rfl ?_
      exact V.sub [1, 2, 0] rfl (vJ4_deleteEntry_p133 X hf)
def fJ4_deleteEntry_p57 (D : aD) (h : aH) (a0 : Option Nat) (a1 : Option Nat) : Option (aH) :=
  (gR h 17 2 a1).bind fun x1 =>
  if x1 = none then
  ((gR h 17 3 a1).bind fun x2 =>
  fJ4_deleteEntry_p75 D h a0 a1 x2)
  else
  ((gR h 17 2 a1).bind fun x3 =>
  fJ4_deleteEntry_p75 D h a0 a1 x3)
theorem vJ4_deleteEntry_p57 {h : aH} {a0 : Option Nat} {a1 : Option Nat} {g : aH} (X : aX p l R s m meth c D n0 s0 yJ4_deleteEntry cJ4_deleteEntry 2 44 3 (none) h0) (hf : fJ4_deleteEntry_p57 D h a0 a1 = some g) : V p l e R s m args below meth c D n0 s0 (aEnd D below args s h0 (.inr none, g)) h 57 [(0, false, va_rf a0), (1, false, va_rf a1)] [] := by
  have C := X.1
  unfold fJ4_deleteEntry_p57 at hf
  refine v_aload_n (pc := 57) (j := 1) C dJ4_deleteEntry_57 rfl rfl ?_
  obtain ⟨x1, ex1, hf⟩ := oB hf
  refine v_getF (pc := 58) C lk_J4_111 (gR_eq ex1) dJ4_deleteEntry_58 ?_
  refine v_ifnull (pc := 61) (tgt := 71) C dJ4_deleteEntry_61 rfl (fun hc => ?_) (fun hc => ?_)
  · rw [if_pos hc] at hf
    refine v_aload_n (pc := 71) (j := 1) C dJ4_deleteEntry_71 rfl rfl ?_
    obtain ⟨x2, ex2, hf⟩ := oB hf
    refine v_getF (pc := 72) C lk_J4_114 (gR_eq ex2) dJ4_deleteEntry_72 ?_
    exact V.sub [0, 1] rfl (vJ4_deleteEntry_p75 X hf)
  · rw [if_neg hc] at hf
    refine v_aload_n (pc := 64) (j := 1) C dJ4_deleteEntry_64 rfl rfl ?_
    obtain ⟨x3, ex3, hf⟩ := oB hf
    refine v_getF (pc := 65) C lk_J4_111 (gR_eq ex3) dJ4_deleteEntry_65 ?_
    refine v_goto (pc := 68) (tgt := 75) C dJ4_deleteEntry_68 rfl ?_
    exact V.sub [0, 1] rfl (vJ4_deleteEntry_p75 X hf)
def fJ4_deleteEntry (D : aD) (h : aH) (a0 : Option Nat) (a1 : Option Nat) : Option (aH) :=
  (gI h 16 5 a0).bind fun x1 =>
  (pF D h 16 5 a0 (.int (x1 + (1 : Int32)))).bind fun h2 =>
  (gI h2 16 4 a0).bind fun x3 =>
  (pF D h2 16 4 a0 (.int (x3 - (1 : Int32)))).bind fun h4 =>
  (gR h4 17 2 a1).bind fun x5 =>
  if x5 = none then
  (fJ4_deleteEntry_p57 D h4 a0 a1)
  else
  ((gR h4 17 3 a1).bind fun x6 =>
  if x6 = none then
  (fJ4_deleteEntry_p57 D h4 a0 a1)
  else
  ((fJ4_successor D h4 a1).bind fun x8 =>
  (gR h4 17 0 x8).bind fun x10 =>
  (pF D h4 17 0 a1 (va_rf x10)).bind fun h11 =>
  (gR h11 17 1 x8).bind fun x12 =>
  (pF D h11 17 1 a1 (va_rf x12)).bind fun h13 =>
  fJ4_deleteEntry_p57 D h13 a0 x8))
theorem vJ4_deleteEntry {h : aH} {a0 : Option Nat} {a1 : Option Nat} {g : aH} (X : aX p l R s m meth c D n0 s0 yJ4_deleteEntry cJ4_deleteEntry 2 44 3 (none) h0) (hf : fJ4_deleteEntry D h a0 a1 = some g) : V p l e R s m args below meth c D n0 s0 (aEnd D below args s h0 (.inr none, g)) h 0 [(0, false, va_rf a0), (1, false, va_rf a1)] [] := by
  have C := X.1
  unfold fJ4_deleteEntry at hf
  refine v_aload_n (pc := 0) (j := 0) C dJ4_deleteEntry_0 rfl rfl ?_
  refine v_dup (pc := 1) C dJ4_deleteEntry_1 (va_rfc _) ?_
  obtain ⟨x1, ex1, hf⟩ := oB hf
  refine v_getF (pc := 2) C lk_J4_13 (gI_eq ex1) dJ4_deleteEntry_2 ?_
  refine v_iconst (pc := 5) (v := (1 : Int32)) C dJ4_deleteEntry_5 rfl ?_
  refine v_iadd (pc := 6) C dJ4_deleteEntry_6 ?_
  obtain ⟨h2, eh2, hf⟩ := oB hf
  refine v_putF (pc := 7) C lk_J4_13 tyJ4 tyJ4_ok nmJ4 (tyJ4_ok 5 (by decide)) rfl rfl eh2 dJ4_deleteEntry_7 ?_
  refine v_aload_n (pc := 10) (j := 0) C dJ4_deleteEntry_10 rfl rfl ?_
  refine v_dup (pc := 11) C dJ4_deleteEntry_11 (va_rfc _) ?_
  obtain ⟨x3, ex3, hf⟩ := oB hf
  refine v_getF (pc := 12) C lk_J4_7 (gI_eq ex3) dJ4_deleteEntry_12 ?_
  refine v_iconst (pc := 15) (v := (1 : Int32)) C dJ4_deleteEntry_15 rfl ?_
  refine v_isub (pc := 16) C dJ4_deleteEntry_16 ?_
  obtain ⟨h4, eh4, hf⟩ := oB hf
  refine v_putF (pc := 17) C lk_J4_7 tyJ4 tyJ4_ok nmJ4 (tyJ4_ok 4 (by decide)) rfl rfl eh4 dJ4_deleteEntry_17 ?_
  refine v_aload_n (pc := 20) (j := 1) C dJ4_deleteEntry_20 rfl rfl ?_
  obtain ⟨x5, ex5, hf⟩ := oB hf
  refine v_getF (pc := 21) C lk_J4_111 (gR_eq ex5) dJ4_deleteEntry_21 ?_
  refine v_ifnull (pc := 24) (tgt := 57) C dJ4_deleteEntry_24 rfl (fun hc => ?_) (fun hc => ?_)
  · rw [if_pos hc] at hf
    exact V.sub [0, 1] rfl (vJ4_deleteEntry_p57 X hf)
  · rw [if_neg hc] at hf
    refine v_aload_n (pc := 27) (j := 1) C dJ4_deleteEntry_27 rfl rfl ?_
    obtain ⟨x6, ex6, hf⟩ := oB hf
    refine v_getF (pc := 28) C lk_J4_114 (gR_eq ex6) dJ4_deleteEntry_28 ?_
    refine v_ifnull (pc := 31) (tgt := 57) C dJ4_deleteEntry_31 rfl (fun hc => ?_) (fun hc => ?_)
    · rw [if_pos hc] at hf
      exact V.sub [0, 1] rfl (vJ4_deleteEntry_p57 X hf)
    · rw [if_neg hc] at hf
      refine v_aload_n (pc := 34) (j := 1) C dJ4_deleteEntry_34 rfl rfl ?_
      obtain ⟨x8, ex8, hf⟩ := oB hf
      refine v_call (pc := 35) (d_S (pc := 35) C (As := [va_rf a1]) (rest := []) q2118 q1161 yk_J4_successor rfl (by decide) (by decide) (Nat.le_trans aw_0 (by decide)) rfl (mJ4_successor C.st ex8) dJ4_deleteEntry_35) ?_
      refine v_astore_n (pc := 38) (lv' := [(2, false, va_rf x8), (0, false, va_rf a0), (1, false, va_rf a1)]) C dJ4_deleteEntry_38 rfl (by decide) rfl ?_
      refine v_aload_n (pc := 39) (j := 2) C dJ4_deleteEntry_39 rfl rfl ?_
      refine v_aload_n (pc := 40) (j := 0) C dJ4_deleteEntry_40 rfl rfl ?_
      obtain ⟨x10, ex10, hf⟩ := oB hf
      refine v_getF (pc := 41) C lk_J4_105 (gR_eq ex10) dJ4_deleteEntry_41 ?_
      obtain ⟨h11, eh11, hf⟩ := oB hf
      refine v_putF (pc := 44) C lk_J4_105 tyJ34 tyJ34_ok nmJ34 (tyJ34_ok 0 (by decide)) rfl ft_o eh11 dJ4_deleteEntry_44 ?_
      refine v_aload_n (pc := 47) (j := 2) C dJ4_deleteEntry_47 rfl rfl ?_
      refine v_aload_n (pc := 48) (j := 0) C dJ4_deleteEntry_48 rfl rfl ?_
      obtain ⟨x12, ex12, hf⟩ := oB hf
      refine v_getF (pc := 49) C lk_J4_58 (gR_eq ex12) dJ4_deleteEntry_49 ?_
      obtain ⟨h13, eh13, hf⟩ := oB hf
      refine v_putF (pc := 52) C lk_J4_58 tyJ34 tyJ34_ok nmJ34 (tyJ34_ok 1 (by decide)) rfl ft_o eh13 dJ4_deleteEntry_52 ?_
      refine v_aload_n (pc := 55) (j := 0) C dJ4_deleteEntry_55 rfl rfl ?_
      refine v_astore_n (pc := 56) (lv' := [(1, false, va_rf x8), (2, false, va_rf x8), (0, false, va_rf a0)]) C dJ4_deleteEntry_56 rfl (by decide) rfl ?_
      exact V.sub [2, 0] rfl (vJ4_deleteEntry_p57 X hf)
theorem mJ4_deleteEntry {l : Launch} {D : aD} {h : aH} {a0 : Option Nat} {a1 : Option Nat} {g : aH} (hst : l.stackTraces = false) (hf : fJ4_deleteEntry D h a0 a1 = some g) : aM l D yJ4_deleteEntry cJ4_deleteEntry 3 (none) 2 44 [va_rf a0, va_rf a1] h (.inr none, g) :=
  aM.ofX [(false, va_rf a0), (false, va_rf a1)] rfl (ap_r (ap_r ap_0)) (by decide +kernel) hst (al_of (aw_r (aw_r aw_0)) (by decide)) fun p e s m args below meth c X => V.sub (lv' := [(0, false, va_rf a0), (1, false, va_rf a1)]) [0, 1] rfl (vJ4_deleteEntry X hf)
def fJ4_remove (D : aD) (h : aH) (a0 : Option Nat) (a1 : Option Nat) : Option (Option Nat × aH) :=
  (aIs h 16 a0).bind fun _ =>
  (fJ4_getEntry D h a0 a1).bind fun x2 =>
  if x2 = none then
  (some (none, h))
  else
  ((gR h 17 1 x2).bind fun x4 =>
  (aIs h 16 a0).bind fun _ =>
  (fJ4_deleteEntry D h a0 x2).bind fun h7 =>
  some (x4, h7))
theorem vJ4_remove {h : aH} {a0 : Option Nat} {a1 : Option Nat} {q : Option Nat} {g : aH} (X : aX p l R s m meth c D n0 s0 yJ4_remove cJ4_remove 4 87 4 (some (.object "java/lang/Object")) h0) (hf : fJ4_remove D h a0 a1 = some (q, g)) : V p l e R s m args below meth c D n0 s0 (aEnd D below args s h0 (.inr (some (va_rf q)), g)) h 0 [(0, false, va_rf a0), (1, false, va_rf a1)] [] := by
  have C := X.1
  unfold fJ4_remove at hf
  refine v_aload_n (pc := 0) (j := 0) C dJ4_remove_0 rfl rfl ?_
  refine v_aload_n (pc := 1) (j := 1) C dJ4_remove_1 rfl rfl ?_
  obtain ⟨b1, eb1, hf⟩ := oB hf
  obtain ⟨rb1, _, kb1⟩ := aIs_eq eb1
  obtain ⟨x2, ex2, hf⟩ := oB hf
  refine v_call (pc := 2) (d_V (pc := 2) C (As := [va_rf a1]) (rest := []) rb1 kb1 nt_16 q2101 yi_J4_getEntry_java_util_TreeMap yk_J4_getEntry rfl (by decide) (by decide) (Nat.le_trans aw_0 (by decide)) rfl (mJ4_getEntry C.st ex2) dJ4_remove_2) ?_
  refine v_astore_n (pc := 5) (lv' := [(2, false, va_rf x2), (0, false, va_rf a0), (1, false, va_rf a1)]) C dJ4_remove_5 rfl (by decide) rfl ?_
  refine v_aload_n (pc := 6) (j := 0) C dJ4_remove_6 rfl rfl ?_
  refine v_ifnonnull (pc := 7) (tgt := 12) C dJ4_remove_7 rfl (fun hc => ?_) (fun hc => ?_)
  · rw [if_neg hc] at hf
    refine v_aload_n (pc := 12) (j := 0) C dJ4_remove_12 rfl rfl ?_
    obtain ⟨x4, ex4, hf⟩ := oB hf
    refine v_getF (pc := 13) C lk_J4_58 (gR_eq ex4) dJ4_remove_13 ?_
    refine v_astore_n (pc := 16) (lv' := [(3, false, va_rf x4), (2, false, va_rf x2), (0, false, va_rf a0), (1, false, va_rf a1)]) C dJ4_remove_16 rfl (by decide) rfl ?_
    refine v_aload_n (pc := 17) (j := 2) C dJ4_remove_17 rfl rfl ?_
    refine v_aload_n (pc := 18) (j := 1) C dJ4_remove_18 rfl rfl ?_
    obtain ⟨b5, eb5, hf⟩ := oB hf
    obtain ⟨rb5, _, kb5⟩ := aIs_eq eb5
    obtain ⟨h7, ex6, hf⟩ := oB hf
    refine v_callU (pc := 19) (d_V (pc := 19) C (As := [va_rf x2]) (rest := []) rb5 kb5 nt_16 q2114 yi_J4_deleteEntry_java_util_TreeMap yk_J4_deleteEntry rfl (by decide) (by decide) (Nat.le_trans aw_0 (by decide)) rfl (mJ4_deleteEntry C.st ex6) dJ4_remove_19) ?_
    refine v_aload_n (pc := 22) (j := 0) C dJ4_remove_22 rfl rfl ?_
    cases hf
    exact v_areturn (pc := 23) C X.2.1 X.2.2.1 X.2.2.2.1 (Or.inl ⟨_, rfl⟩) rfl dJ4_remove_23
  · rw [if_pos hc] at hf
    refine v_null (pc := 10) C dJ4_remove_10 ?_
    cases hf
    exact v_areturn (pc := 11) C X.2.1 X.2.2.1 X.2.2.2.1 (Or.inl ⟨_, rfl⟩) rfl dJ4_remove_11
theorem mJ4_remove {l : Launch} {D : aD} {h : aH} {a0 : Option Nat} {a1 : Option Nat} {q : Option Nat} {g : aH} (hst : l.stackTraces = false) (hf : fJ4_remove D h a0 a1 = some (q, g)) : aM l D yJ4_remove cJ4_remove 4 (some (.object "java/lang/Object")) 4 87 [va_rf a0, va_rf a1] h (.inr (some (va_rf q)), g) :=
  aM.ofX [(false, va_rf a0), (false, va_rf a1)] rfl (ap_r (ap_r ap_0)) (by decide +kernel) hst (al_of (aw_r (aw_r aw_0)) (by decide)) fun p e s m args below meth c X => V.sub (lv' := [(0, false, va_rf a0), (1, false, va_rf a1)]) [0, 1] rfl (vJ4_remove X hf)
def fX1_remove (D : aD) (h : aH) (a0 : Option Nat) (a1 : Int32) : Option ((Nat ⊕ Int32) × aH) :=
  (aIs h 0 a0).bind fun _ =>
  bndT (fX1_finding D h a0 a1) fun x2 h3 =>
  (gR h3 0 5 a0).bind fun x4 =>
  bnd2 (fJ19_valueOf D h3 a1) fun x6 h7 =>
  (aIs h7 16 x4).bind fun _ =>
  bnd2 (fJ4_remove D h7 x4 x6) fun x9 h10 =>
  (aCast h10 [7] x9).bind fun _ =>
  (gI h10 7 5 x2).bind fun x12 =>
  some (.inr x12, h10)
theorem vX1_remove {h : aH} {a0 : Option Nat} {a1 : Int32} {q : Nat ⊕ Int32} {g : aH} (X : aX p l R s m meth c D n0 s0 yX1_remove cX1_remove 7 131 4 (some .int) h0) (hf : fX1_remove D h a0 a1 = some (q, g)) : V p l e R s m args below meth c D n0 s0 (aEnd D below args s h0 (wI q, g)) h 0 [(0, false, va_rf a0), (1, false, .int a1)] [] := by
  have C := X.1
  unfold fX1_remove at hf
  refine v_aload_n (pc := 0) (j := 0) C dX1_remove_0 rfl rfl ?_
  refine v_iload_n (pc := 1) (j := 1) C dX1_remove_1 rfl rfl ?_
  obtain ⟨b1, eb1, hf⟩ := oB hf
  obtain ⟨rb1, _, kb1⟩ := aIs_eq eb1
  rcases bndT_eq hf with ⟨_, _, ex2, qx2⟩ | ⟨x2, h3, ex2, hf⟩
  · cases qx2; exact v_ofDx (pc := 2) C X.2.1 X.2.2.1 rfl X.2.2.2.2.1 (d_V (pc := 2) C (As := [.int a1]) (rest := []) rb1 kb1 nt_0 q2093 yi_X1_finding_FigureSurvey yk_X1_finding rfl (by decide) (by decide) (Nat.le_trans aw_0 (by decide)) rfl (mX1_finding C.st ex2) dX1_remove_2)
  refine v_call (pc := 2) (d_V (pc := 2) C (As := [.int a1]) (rest := []) rb1 kb1 nt_0 q2093 yi_X1_finding_FigureSurvey yk_X1_finding rfl (by decide) (by decide) (Nat.le_trans aw_0 (by decide)) rfl (mX1_finding C.st ex2) dX1_remove_2) ?_
  refine v_astore_n (pc := 5) (lv' := [(2, false, va_rf x2), (0, false, va_rf a0), (1, false, .int a1)]) C dX1_remove_5 rfl (by decide) rfl ?_
  refine v_aload_n (pc := 6) (j := 1) C dX1_remove_6 rfl rfl ?_
  obtain ⟨x4, ex4, hf⟩ := oB hf
  refine v_getF (pc := 7) C lk_X1_65 (gR_eq ex4) dX1_remove_7 ?_
  refine v_iload_n (pc := 10) (j := 2) C dX1_remove_10 rfl rfl ?_
  obtain ⟨x6, h7, ex6, hf⟩ := bnd2_eq hf
  refine v_call (pc := 11) (d_S (pc := 11) C (As := [.int a1]) (rest := [va_rf x4]) q2059 q2060 yk_J19_valueOf rfl (by decide) (by decide) (Nat.le_trans (aw_r aw_0) (by decide)) rfl (mJ19_valueOf C.st ex6) dX1_remove_11) ?_
  obtain ⟨b8, eb8, hf⟩ := oB hf
  obtain ⟨rb8, _, kb8⟩ := aIs_eq eb8
  obtain ⟨x9, h10, ex9, hf⟩ := bnd2_eq hf
  refine v_call (pc := 14) (d_V (pc := 14) C (As := [va_rf x6]) (rest := []) rb8 kb8 nt_16 q2110 yi_J4_remove_java_util_TreeMap yk_J4_remove rfl (by decide) (by decide) (Nat.le_trans aw_0 (by decide)) rfl (mJ4_remove C.st ex9) dX1_remove_14) ?_
  obtain ⟨_, e11, hf⟩ := oB hf
  refine v_cast (pc := 17) C q1566 ct_FigureSurvey_Finding e11 dX1_remove_17 ?_
  refine v_astore_n (pc := 20) (lv' := [(3, false, va_rf x9), (2, false, va_rf x2), (0, false, va_rf a0), (1, false, .int a1)]) C dX1_remove_20 rfl (by decide) rfl ?_
  refine v_aload_n (pc := 21) (j := 1) C dX1_remove_21 rfl rfl ?_
  obtain ⟨x12, ex12, hf⟩ := oB hf
  refine v_getF (pc := 22) C lk_X1_336 (gI_eq ex12) dX1_remove_22 ?_
  cases hf
  exact v_ireturn (pc := 25) C X.2.1 X.2.2.1 X.2.2.2.1 rfl dX1_remove_25
theorem mX1_remove {l : Launch} {D : aD} {h : aH} {a0 : Option Nat} {a1 : Int32} {q : Nat ⊕ Int32} {g : aH} (hst : l.stackTraces = false) (hf : fX1_remove D h a0 a1 = some (q, g)) : aM l D yX1_remove cX1_remove 4 (some .int) 7 131 [va_rf a0, .int a1] h (wI q, g) :=
  aM.ofX [(false, va_rf a0), (false, .int a1)] rfl (ap_r (ap_c rfl ap_0)) (by decide +kernel) hst (al_of (aw_r (aw_i aw_0)) (by decide)) fun p e s m args below meth c X => V.sub (lv' := [(0, false, va_rf a0), (1, false, .int a1)]) [0, 1] rfl (vX1_remove X hf)
def fX1_distance_p10 (D : aD) (h : aH) : Nat → Int32 → Int32 → Int32 → Int32 → Option (Int32)
  | 0, _, _, _, _ => none
  | n + 1, a2, a3, a4, a5 =>
  if (6 : Int32) ≤ a5 then
  (some a2)
  else
  ((fJ11_abs D h ((a3 - a3 / (10 : Int32) * (10 : Int32)) - (a4 - a4 / (10 : Int32) * (10 : Int32)))).bind fun x2 =>
  (some ((a2 + x2))).bind fun x4 =>
  (some ((a3 / (10 : Int32)))).bind fun x5 =>
  (some ((a4 / (10 : Int32)))).bind fun x6 =>
  fX1_distance_p10 D h n x4 x5 x6 (a5 + 1))
theorem vX1_distance_p10 {h : aH} (X : aX p l R s m meth c D n0 s0 yX1_distance cX1_distance 1 20 6 (some .int) h0) : ∀ (n : Nat) (a2 : Int32) (a3 : Int32) (a4 : Int32) (a5 : Int32) (q : Int32), fX1_distance_p10 D h n a2 a3 a4 a5 = some q → V p l e R s m args below meth c D n0 s0 (aEnd D below args s h0 (.inr (some (.int q)), h)) h 10 [(2, false, .int a2), (3, false, .int a3), (4, false, .int a4), (5, false, .int a5)] [] := by
  have C := X.1
  intro n
  induction n with
  | zero =>
    intro _ _ _ _ _ hf
    rw [fX1_distance_p10] at hf
    cases hf
  | succ n ih =>
    intro a2 a3 a4 a5 q hf
    rw [fX1_distance_p10] at hf
    refine v_iload (pc := 10) (j := 3) C dX1_distance_10 rfl ?_
    refine v_bipush (pc := 12) (v := (6 : Int32)) C dX1_distance_12 rfl ?_
    refine v_icmp_ge (pc := 14) (tgt := 51) C dX1_distance_14 rfl (fun hc => ?_) (fun hc => ?_)
    · rw [if_pos hc] at hf
      refine v_iload_n (pc := 51) (j := 0) C dX1_distance_51 rfl rfl ?_
      cases hf
      exact v_ireturn (pc := 52) C X.2.1 X.2.2.1 X.2.2.2.1 rfl dX1_distance_52
    · rw [if_neg hc] at hf
      refine v_iload_n (pc := 17) (j := 0) C dX1_distance_17 rfl rfl ?_
      refine v_iload_n (pc := 18) (j := 1) C dX1_distance_18 rfl rfl ?_
      refine v_bipush (pc := 19) (v := (10 : Int32)) C dX1_distance_19 rfl ?_
      refine v_irem (pc := 21) C dX1_distance_21 (by decide) ?_
      refine v_iload (pc := 22) (j := 2) C dX1_distance_22 rfl ?_
      refine v_bipush (pc := 24) (v := (10 : Int32)) C dX1_distance_24 rfl ?_
      refine v_irem (pc := 26) C dX1_distance_26 (by decide) ?_
      refine v_isub (pc := 27) C dX1_distance_27 ?_
      obtain ⟨x2, ex2, hf⟩ := oB hf
      refine v_call (pc := 28) (d_S (pc := 28) C (As := [.int ((a3 - a3 / (10 : Int32) * (10 : Int32)) - (a4 - a4 / (10 : Int32) * (10 : Int32)))]) (rest := [.int a2]) q2196 q592 yk_J11_abs rfl (by decide) (by decide) (Nat.le_trans (aw_i aw_0) (by decide)) rfl (mJ11_abs C.st ex2) dX1_distance_28) ?_
      refine v_iadd (pc := 31) C dX1_distance_31 ?_
      obtain ⟨x4, ex4, hf⟩ := oB hf
      refine vst (Option.some.inj ex4) (fun z => .int z :: []) ?_
      refine v_istore_n (pc := 32) (lv' := [(2, false, .int x4), (3, false, .int a3), (4, false, .int a4), (5, false, .int a5)]) C dX1_distance_32 rfl (by decide) rfl ?_
      refine v_iload_n (pc := 33) (j := 1) C dX1_distance_33 rfl rfl ?_
      refine v_bipush (pc := 34) (v := (10 : Int32)) C dX1_distance_34 rfl ?_
      refine v_idiv (pc := 36) C dX1_distance_36 (by decide) ?_
      obtain ⟨x5, ex5, hf⟩ := oB hf
      refine vst (Option.some.inj ex5) (fun z => .int z :: []) ?_
      refine v_istore_n (pc := 37) (lv' := [(3, false, .int x5), (2, false, .int x4), (4, false, .int a4), (5, false, .int a5)]) C dX1_distance_37 rfl (by decide) rfl ?_
      refine v_iload (pc := 38) (j := 2) C dX1_distance_38 rfl ?_
      refine v_bipush (pc := 40) (v := (10 : Int32)) C dX1_distance_40 rfl ?_
      refine v_idiv (pc := 42) C dX1_distance_42 (by decide) ?_
      obtain ⟨x6, ex6, hf⟩ := oB hf
      refine vst (Option.some.inj ex6) (fun z => .int z :: []) ?_
      refine v_istore (pc := 43) (lv' := [(4, false, .int x6), (3, false, .int x5), (2, false, .int x4), (5, false, .int a5)]) C dX1_distance_43 (by decide) rfl ?_
      refine v_iinc (pc := 45) (j := 3) (v := (a5 + 1)) (lv' := [(5, false, .int (a5 + 1)), (4, false, .int x6), (3, false, .int x5), (2, false, .int x4)]) C dX1_distance_45 rfl rfl (by decide) rfl ?_
      refine v_goto (pc := 48) (tgt := 10) C dX1_distance_48 rfl ?_
      exact V.sub [3, 2, 1, 0] rfl (ih _ _ _ _ _ hf)
def fX1_distance (D : aD) (h : aH) (a0 : Int32) (a1 : Int32) : Option (Int32) :=
  fX1_distance_p10 D h FU (0 : Int32) a0 a1 (0 : Int32)
theorem vX1_distance {h : aH} {a0 : Int32} {a1 : Int32} {q : Int32} (X : aX p l R s m meth c D n0 s0 yX1_distance cX1_distance 1 20 6 (some .int) h0) (hf : fX1_distance D h a0 a1 = some q) : V p l e R s m args below meth c D n0 s0 (aEnd D below args s h0 (.inr (some (.int q)), h)) h 0 [(0, false, .int a0), (1, false, .int a1)] [] := by
  have C := X.1
  unfold fX1_distance at hf
  refine v_iconst (pc := 0) (v := (0 : Int32)) C dX1_distance_0 rfl ?_
  refine v_istore_n (pc := 1) (lv' := [(2, false, .int (0 : Int32)), (0, false, .int a0), (1, false, .int a1)]) C dX1_distance_1 rfl (by decide) rfl ?_
  refine v_iload_n (pc := 2) (j := 1) C dX1_distance_2 rfl rfl ?_
  refine v_istore_n (pc := 3) (lv' := [(3, false, .int a0), (2, false, .int (0 : Int32)), (0, false, .int a0), (1, false, .int a1)]) C dX1_distance_3 rfl (by decide) rfl ?_
  refine v_iload_n (pc := 4) (j := 3) C dX1_distance_4 rfl rfl ?_
  refine v_istore (pc := 5) (lv' := [(4, false, .int a1), (3, false, .int a0), (2, false, .int (0 : Int32)), (0, false, .int a0), (1, false, .int a1)]) C dX1_distance_5 (by decide) rfl ?_
  refine v_iconst (pc := 7) (v := (0 : Int32)) C dX1_distance_7 rfl ?_
  refine v_istore (pc := 8) (lv' := [(5, false, .int (0 : Int32)), (4, false, .int a1), (3, false, .int a0), (2, false, .int (0 : Int32)), (0, false, .int a0), (1, false, .int a1)]) C dX1_distance_8 (by decide) rfl ?_
  exact V.sub [3, 2, 1, 0] rfl (vX1_distance_p10 X _ _ _ _ _ _ hf)
theorem mX1_distance {l : Launch} {D : aD} {h : aH} {a0 : Int32} {a1 : Int32} {q : Int32} (hst : l.stackTraces = false) (hf : fX1_distance D h a0 a1 = some q) : aM l D yX1_distance cX1_distance 6 (some .int) 1 20 [.int a0, .int a1] h (.inr (some (.int q)), h) :=
  aM.ofX [(false, .int a0), (false, .int a1)] rfl (ap_c rfl (ap_c rfl ap_0)) (by decide +kernel) hst (al_of (aw_i (aw_i aw_0)) (by decide)) fun p e s m args below meth c X => V.sub (lv' := [(0, false, .int a0), (1, false, .int a1)]) [0, 1] rfl (vX1_distance X hf)
def fX1_style_p72 (D : aD) (h : aH) (K4 : (Option Nat) → Int32 → Int32 → Int32 → Option (Int32)) (a0 : Option Nat) (a1 : Int32) (a2 : Int32) (a3 : Int32) : Option (Int32) :=
  K4 a0 a1 a2 (a3 + 1)
theorem vX1_style_p72 {h : aH} {K4 : (Option Nat) → Int32 → Int32 → Int32 → Option (Int32)} {a0 : Option Nat} {a1 : Int32} {a2 : Int32} {a3 : Int32} {q : Int32} (X : aX p l R s m meth c D n0 s0 yX1_style cX1_style 3 64 5 (some .int) h0) (k4 : ∀ (a0 : Option Nat) (a1 : Int32) (a2 : Int32) (a3 : Int32) (q : Int32), K4 a0 a1 a2 a3 = some q → V p l e R s m args below meth c D n0 s0 (aEnd D below args s h0 (.inr (some (.int q)), h)) h 4 [(0, false, va_rf a0), (1, false, .int a1), (2, false, .int a2), (3, false, .int a3)] []) (hf : fX1_style_p72 D h K4 a0 a1 a2 a3 = some q) : V p l e R s m args below meth c D n0 s0 (aEnd D below args s h0 (.inr (some (.int q)), h)) h 72 [(0, false, va_rf a0), (1, false, .int a1), (2, false, .int a2), (3, false, .int a3)] [] := by
  have C := X.1
  unfold fX1_style_p72 at hf
  refine v_iinc (pc := 72) (j := 3) (v := (a3 + 1)) (lv' := [(3, false, .int (a3 + 1)), (0, false, va_rf a0), (1, false, .int a1), (2, false, .int a2)]) C dX1_style_72 rfl rfl (by decide) rfl ?_
  refine v_goto (pc := 75) (tgt := 4) C dX1_style_75 rfl ?_
  exact V.sub [1, 2, 3, 0] rfl (k4 _ _ _ _ _ hf)
def fX1_style_p70 (D : aD) (h : aH) (K4 : (Option Nat) → Int32 → Int32 → Int32 → Option (Int32)) (a0 : Option Nat) (a1 : Int32) (a3 : Int32) : Option (Int32) :=
  fX1_style_p72 D h K4 a0 a1 a3 a3
theorem vX1_style_p70 {h : aH} {K4 : (Option Nat) → Int32 → Int32 → Int32 → Option (Int32)} {a0 : Option Nat} {a1 : Int32} {a3 : Int32} {q : Int32} (X : aX p l R s m meth c D n0 s0 yX1_style cX1_style 3 64 5 (some .int) h0) (k4 : ∀ (a0 : Option Nat) (a1 : Int32) (a2 : Int32) (a3 : Int32) (q : Int32), K4 a0 a1 a2 a3 = some q → V p l e R s m args below meth c D n0 s0 (aEnd D below args s h0 (.inr (some (.int q)), h)) h 4 [(0, false, va_rf a0), (1, false, .int a1), (2, false, .int a2), (3, false, .int a3)] []) (hf : fX1_style_p70 D h K4 a0 a1 a3 = some q) : V p l e R s m args below meth c D n0 s0 (aEnd D below args s h0 (.inr (some (.int q)), h)) h 70 [(0, false, va_rf a0), (1, false, .int a1), (3, false, .int a3)] [] := by
  have C := X.1
  unfold fX1_style_p70 at hf
  refine v_iload_n (pc := 70) (j := 2) C dX1_style_70 rfl rfl ?_
  refine v_istore_n (pc := 71) (lv' := [(2, false, .int a3), (0, false, va_rf a0), (1, false, .int a1), (3, false, .int a3)]) C dX1_style_71 rfl (by decide) rfl ?_
  exact V.sub [1, 2, 0, 3] rfl (vX1_style_p72 X k4 hf)
def fX1_style_p4 (D : aD) (h : aH) : Nat → (Option Nat) → Int32 → Int32 → Int32 → Option (Int32)
  | 0, _, _, _, _ => none
  | n + 1, a0, a1, a2, a3 =>
  (gR h 0 9 a0).bind fun x1 =>
  (aIs h 15 x1).bind fun _ =>
  (fJ2_size D h x1).bind fun x3 =>
  if x3 ≤ a3 then
  (some a2)
  else
  ((gR h 0 9 a0).bind fun x5 =>
  (aIs h 15 x5).bind fun _ =>
  (fJ2_get D h x5 a3).bind fun x7 =>
  (aCast h [22] x7).bind fun _ =>
  (aIs h 22 x7).bind fun _ =>
  (fJ19_intValue D h x7).bind fun x11 =>
  (fX1_distance D h a1 x11).bind fun x14 =>
  if (12 : Int32) < x14 then
  (fX1_style_p72 D h (fX1_style_p4 D h n) a0 a1 a2 a3)
  else
  (if a2 = (-1 : Int32) then
  (fX1_style_p70 D h (fX1_style_p4 D h n) a0 a1 a3)
  else
  ((gR h 0 9 a0).bind fun x16 =>
  (aIs h 15 x16).bind fun _ =>
  (fJ2_get D h x16 a2).bind fun x18 =>
  (aCast h [22] x18).bind fun _ =>
  (aIs h 22 x18).bind fun _ =>
  (fJ19_intValue D h x18).bind fun x22 =>
  (fX1_distance D h a1 x22).bind fun x25 =>
  if x25 ≤ x14 then
  (fX1_style_p72 D h (fX1_style_p4 D h n) a0 a1 a2 a3)
  else
  (fX1_style_p70 D h (fX1_style_p4 D h n) a0 a1 a3))))
theorem vX1_style_p4 {h : aH} (X : aX p l R s m meth c D n0 s0 yX1_style cX1_style 3 64 5 (some .int) h0) : ∀ (n : Nat) (a0 : Option Nat) (a1 : Int32) (a2 : Int32) (a3 : Int32) (q : Int32), fX1_style_p4 D h n a0 a1 a2 a3 = some q → V p l e R s m args below meth c D n0 s0 (aEnd D below args s h0 (.inr (some (.int q)), h)) h 4 [(0, false, va_rf a0), (1, false, .int a1), (2, false, .int a2), (3, false, .int a3)] [] := by
  have C := X.1
  intro n
  induction n with
  | zero =>
    intro _ _ _ _ _ hf
    rw [fX1_style_p4] at hf
    cases hf
  | succ n ih =>
    intro a0 a1 a2 a3 q hf
    rw [fX1_style_p4] at hf
    refine v_iload_n (pc := 4) (j := 3) C dX1_style_4 rfl rfl ?_
    refine v_aload_n (pc := 5) (j := 0) C dX1_style_5 rfl rfl ?_
    obtain ⟨x1, ex1, hf⟩ := oB hf
    refine v_getF (pc := 6) C lk_X1_75 (gR_eq ex1) dX1_style_6 ?_
    obtain ⟨b2, eb2, hf⟩ := oB hf
    obtain ⟨rb2, _, kb2⟩ := aIs_eq eb2
    obtain ⟨x3, ex3, hf⟩ := oB hf
    refine v_call (pc := 9) (d_V (pc := 9) C (As := []) (rest := [.int a3]) rb2 kb2 nt_15 q375 yi_J2_size_java_util_ArrayList yk_J2_size rfl (by decide) (by decide) (Nat.le_trans (aw_i aw_0) (by decide)) rfl (mJ2_size C.st ex3) dX1_style_9) ?_
    refine v_icmp_ge (pc := 12) (tgt := 78) C dX1_style_12 rfl (fun hc => ?_) (fun hc => ?_)
    · rw [if_pos hc] at hf
      refine v_iload_n (pc := 78) (j := 2) C dX1_style_78 rfl rfl ?_
      cases hf
      exact v_ireturn (pc := 79) C X.2.1 X.2.2.1 X.2.2.2.1 rfl dX1_style_79
    · rw [if_neg hc] at hf
      refine v_iload_n (pc := 15) (j := 1) C dX1_style_15 rfl rfl ?_
      refine v_aload_n (pc := 16) (j := 0) C dX1_style_16 rfl rfl ?_
      obtain ⟨x5, ex5, hf⟩ := oB hf
      refine v_getF (pc := 17) C lk_X1_75 (gR_eq ex5) dX1_style_17 ?_
      refine v_iload_n (pc := 20) (j := 3) C dX1_style_20 rfl rfl ?_
      obtain ⟨b6, eb6, hf⟩ := oB hf
      obtain ⟨rb6, _, kb6⟩ := aIs_eq eb6
      obtain ⟨x7, ex7, hf⟩ := oB hf
      refine v_call (pc := 21) (d_V (pc := 21) C (As := [.int a3]) (rest := [.int a1]) rb6 kb6 nt_15 q379 yi_J2_get_java_util_ArrayList yk_J2_get rfl (by decide) (by decide) (Nat.le_trans (aw_i aw_0) (by decide)) rfl (mJ2_get C.st ex7) dX1_style_21) ?_
      obtain ⟨_, e9, hf⟩ := oB hf
      refine v_cast (pc := 24) C q2191 ct_java_lang_Integer e9 dX1_style_24 ?_
      obtain ⟨b10, eb10, hf⟩ := oB hf
      obtain ⟨rb10, _, kb10⟩ := aIs_eq eb10
      obtain ⟨x11, ex11, hf⟩ := oB hf
      refine v_call (pc := 27) (d_V (pc := 27) C (As := []) (rest := [.int a1]) rb10 kb10 nt_22 q2192 yi_J19_intValue_java_lang_Integer yk_J19_intValue rfl (by decide) (by decide) (Nat.le_trans (aw_i aw_0) (by decide)) rfl (mJ19_intValue C.st ex11) dX1_style_27) ?_
      obtain ⟨x14, ex14, hf⟩ := oB hf
      refine v_call (pc := 30) (d_S (pc := 30) C (As := [.int a1, .int x11]) (rest := []) q2193 q2194 yk_X1_distance rfl (by decide) (by decide) (Nat.le_trans aw_0 (by decide)) rfl (mX1_distance C.st ex14) dX1_style_30) ?_
      refine v_istore (pc := 33) (lv' := [(4, false, .int x14), (0, false, va_rf a0), (1, false, .int a1), (2, false, .int a2), (3, false, .int a3)]) C dX1_style_33 (by decide) rfl ?_
      refine v_iload (pc := 35) (j := 0) C dX1_style_35 rfl ?_
      refine v_bipush (pc := 37) (v := (12 : Int32)) C dX1_style_37 rfl ?_
      refine v_icmp_gt (pc := 39) (tgt := 72) C dX1_style_39 rfl (fun hc => ?_) (fun hc => ?_)
      · rw [if_pos hc] at hf
        exact V.sub [1, 2, 3, 4] rfl (vX1_style_p72 X ih hf)
      · rw [if_neg hc] at hf
        refine v_iload_n (pc := 42) (j := 3) C dX1_style_42 rfl rfl ?_
        refine v_iconst (pc := 43) (v := (-1 : Int32)) C dX1_style_43 rfl ?_
        refine v_icmp_eq (pc := 44) (tgt := 70) C dX1_style_44 rfl (fun hc => ?_) (fun hc => ?_)
        · rw [if_pos hc] at hf
          exact V.sub [1, 2, 4] rfl (vX1_style_p70 X ih hf)
        · rw [if_neg hc] at hf
          refine v_iload (pc := 47) (j := 0) C dX1_style_47 rfl ?_
          refine v_iload_n (pc := 49) (j := 2) C dX1_style_49 rfl rfl ?_
          refine v_aload_n (pc := 50) (j := 1) C dX1_style_50 rfl rfl ?_
          obtain ⟨x16, ex16, hf⟩ := oB hf
          refine v_getF (pc := 51) C lk_X1_75 (gR_eq ex16) dX1_style_51 ?_
          refine v_iload_n (pc := 54) (j := 3) C dX1_style_54 rfl rfl ?_
          obtain ⟨b17, eb17, hf⟩ := oB hf
          obtain ⟨rb17, _, kb17⟩ := aIs_eq eb17
          obtain ⟨x18, ex18, hf⟩ := oB hf
          refine v_call (pc := 55) (d_V (pc := 55) C (As := [.int a2]) (rest := [.int a1, .int x14]) rb17 kb17 nt_15 q379 yi_J2_get_java_util_ArrayList yk_J2_get rfl (by decide) (by decide) (Nat.le_trans (aw_i (aw_i aw_0)) (by decide)) rfl (mJ2_get C.st ex18) dX1_style_55) ?_
          obtain ⟨_, e20, hf⟩ := oB hf
          refine v_cast (pc := 58) C q2191 ct_java_lang_Integer e20 dX1_style_58 ?_
          obtain ⟨b21, eb21, hf⟩ := oB hf
          obtain ⟨rb21, _, kb21⟩ := aIs_eq eb21
          obtain ⟨x22, ex22, hf⟩ := oB hf
          refine v_call (pc := 61) (d_V (pc := 61) C (As := []) (rest := [.int a1, .int x14]) rb21 kb21 nt_22 q2192 yi_J19_intValue_java_lang_Integer yk_J19_intValue rfl (by decide) (by decide) (Nat.le_trans (aw_i (aw_i aw_0)) (by decide)) rfl (mJ19_intValue C.st ex22) dX1_style_61) ?_
          obtain ⟨x25, ex25, hf⟩ := oB hf
          refine v_call (pc := 64) (d_S (pc := 64) C (As := [.int a1, .int x22]) (rest := [.int x14]) q2193 q2194 yk_X1_distance rfl (by decide) (by decide) (Nat.le_trans (aw_i aw_0) (by decide)) rfl (mX1_distance C.st ex25) dX1_style_64) ?_
          refine v_icmp_ge (pc := 67) (tgt := 72) C dX1_style_67 rfl (fun hc => ?_) (fun hc => ?_)
          · rw [if_pos hc] at hf
            exact V.sub [1, 2, 3, 4] rfl (vX1_style_p72 X ih hf)
          · rw [if_neg hc] at hf
            exact V.sub [1, 2, 4] rfl (vX1_style_p70 X ih hf)
def fX1_style (D : aD) (h : aH) (a0 : Option Nat) (a1 : Int32) : Option (Int32) :=
  fX1_style_p4 D h FU a0 a1 (-1 : Int32) (0 : Int32)
theorem vX1_style {h : aH} {a0 : Option Nat} {a1 : Int32} {q : Int32} (X : aX p l R s m meth c D n0 s0 yX1_style cX1_style 3 64 5 (some .int) h0) (hf : fX1_style D h a0 a1 = some q) : V p l e R s m args below meth c D n0 s0 (aEnd D below args s h0 (.inr (some (.int q)), h)) h 0 [(0, false, va_rf a0), (1, false, .int a1)] [] := by
  have C := X.1
  unfold fX1_style at hf
  refine v_iconst (pc := 0) (v := (-1 : Int32)) C dX1_style_0 rfl ?_
  refine v_istore_n (pc := 1) (lv' := [(2, false, .int (-1 : Int32)), (0, false, va_rf a0), (1, false, .int a1)]) C dX1_style_1 rfl (by decide) rfl ?_
  refine v_iconst (pc := 2) (v := (0 : Int32)) C dX1_style_2 rfl ?_
  refine v_istore_n (pc := 3) (lv' := [(3, false, .int (0 : Int32)), (2, false, .int (-1 : Int32)), (0, false, va_rf a0), (1, false, .int a1)]) C dX1_style_3 rfl (by decide) rfl ?_
  exact V.sub [2, 3, 1, 0] rfl (vX1_style_p4 X _ _ _ _ _ _ hf)
theorem mX1_style {l : Launch} {D : aD} {h : aH} {a0 : Option Nat} {a1 : Int32} {q : Int32} (hst : l.stackTraces = false) (hf : fX1_style D h a0 a1 = some q) : aM l D yX1_style cX1_style 5 (some .int) 3 64 [va_rf a0, .int a1] h (.inr (some (.int q)), h) :=
  aM.ofX [(false, va_rf a0), (false, .int a1)] rfl (ap_r (ap_c rfl ap_0)) (by decide +kernel) hst (al_of (aw_r (aw_i aw_0)) (by decide)) fun p e s m args below meth c X => V.sub (lv' := [(0, false, va_rf a0), (1, false, .int a1)]) [0, 1] rfl (vX1_style X hf)
def fX1_setFeatures (D : aD) (h : aH) (a0 : Option Nat) (a1 : Int32) (a2 : Int32) : Option ((Nat ⊕ Int32) × aH) :=
  (aIs h 0 a0).bind fun _ =>
  bndT (fX1_figure D h a0 a1) fun x2 h3 =>
  bndT (fX1_in D h3 a2 (0 : Int32) (999999 : Int32)) fun x5 h6 =>
  (pF D h6 4 6 x2 (.int x5)).bind fun h7 =>
  (aIs h7 0 a0).bind fun _ =>
  (fX1_style D h7 a0 a2).bind fun x9 =>
  some (.inr x9, h7)
theorem vX1_setFeatures {h : aH} {a0 : Option Nat} {a1 : Int32} {a2 : Int32} {q : Nat ⊕ Int32} {g : aH} (X : aX p l R s m meth c D n0 s0 yX1_setFeatures cX1_setFeatures 8 124 4 (some .int) h0) (hf : fX1_setFeatures D h a0 a1 a2 = some (q, g)) : V p l e R s m args below meth c D n0 s0 (aEnd D below args s h0 (wI q, g)) h 0 [(0, false, va_rf a0), (1, false, .int a1), (2, false, .int a2)] [] := by
  have C := X.1
  unfold fX1_setFeatures at hf
  refine v_aload_n (pc := 0) (j := 0) C dX1_setFeatures_0 rfl rfl ?_
  refine v_iload_n (pc := 1) (j := 1) C dX1_setFeatures_1 rfl rfl ?_
  obtain ⟨b1, eb1, hf⟩ := oB hf
  obtain ⟨rb1, _, kb1⟩ := aIs_eq eb1
  rcases bndT_eq hf with ⟨_, _, ex2, qx2⟩ | ⟨x2, h3, ex2, hf⟩
  · cases qx2; exact v_ofDx (pc := 2) C X.2.1 X.2.2.1 rfl X.2.2.2.2.1 (d_V (pc := 2) C (As := [.int a1]) (rest := []) rb1 kb1 nt_0 q1849 yi_X1_figure_FigureSurvey yk_X1_figure rfl (by decide) (by decide) (Nat.le_trans aw_0 (by decide)) rfl (mX1_figure C.st ex2) dX1_setFeatures_2)
  refine v_call (pc := 2) (d_V (pc := 2) C (As := [.int a1]) (rest := []) rb1 kb1 nt_0 q1849 yi_X1_figure_FigureSurvey yk_X1_figure rfl (by decide) (by decide) (Nat.le_trans aw_0 (by decide)) rfl (mX1_figure C.st ex2) dX1_setFeatures_2) ?_
  refine v_astore_n (pc := 5) (lv' := [(3, false, va_rf x2), (0, false, va_rf a0), (1, false, .int a1), (2, false, .int a2)]) C dX1_setFeatures_5 rfl (by decide) rfl ?_
  refine v_aload_n (pc := 6) (j := 0) C dX1_setFeatures_6 rfl rfl ?_
  refine v_iload_n (pc := 7) (j := 3) C dX1_setFeatures_7 rfl rfl ?_
  refine v_iconst (pc := 8) (v := (0 : Int32)) C dX1_setFeatures_8 rfl ?_
  refine v_ldc_w (pc := 9) (v := (999999 : Int32)) C q2186 dX1_setFeatures_9 ?_
  rcases bndT_eq hf with ⟨_, _, ex5, qx5⟩ | ⟨x5, h6, ex5, hf⟩
  · cases qx5; exact v_ofDx (pc := 12) C X.2.1 X.2.2.1 rfl X.2.2.2.2.1 (d_S (pc := 12) C (As := [.int a2, .int (0 : Int32), .int (999999 : Int32)]) (rest := [va_rf x2]) q1578 q1579 yk_X1_in rfl (by decide) (by decide) (Nat.le_trans (aw_r aw_0) (by decide)) rfl (mX1_in C.st ex5) dX1_setFeatures_12)
  refine v_call (pc := 12) (d_S (pc := 12) C (As := [.int a2, .int (0 : Int32), .int (999999 : Int32)]) (rest := [va_rf x2]) q1578 q1579 yk_X1_in rfl (by decide) (by decide) (Nat.le_trans (aw_r aw_0) (by decide)) rfl (mX1_in C.st ex5) dX1_setFeatures_12) ?_
  obtain ⟨h7, eh7, hf⟩ := oB hf
  refine v_putF (pc := 15) C lk_X1_392 tyX5 tyX5_ok nmX5 (tyX5_ok 6 (by decide)) rfl rfl eh7 dX1_setFeatures_15 ?_
  refine v_aload_n (pc := 18) (j := 1) C dX1_setFeatures_18 rfl rfl ?_
  refine v_iload_n (pc := 19) (j := 3) C dX1_setFeatures_19 rfl rfl ?_
  obtain ⟨b8, eb8, hf⟩ := oB hf
  obtain ⟨rb8, _, kb8⟩ := aIs_eq eb8
  obtain ⟨x9, ex9, hf⟩ := oB hf
  refine v_call (pc := 20) (d_V (pc := 20) C (As := [.int a2]) (rest := []) rb8 kb8 nt_0 q2187 yi_X1_style_FigureSurvey yk_X1_style rfl (by decide) (by decide) (Nat.le_trans aw_0 (by decide)) rfl (mX1_style C.st ex9) dX1_setFeatures_20) ?_
  cases hf
  exact v_ireturn (pc := 23) C X.2.1 X.2.2.1 X.2.2.2.1 rfl dX1_setFeatures_23
theorem mX1_setFeatures {l : Launch} {D : aD} {h : aH} {a0 : Option Nat} {a1 : Int32} {a2 : Int32} {q : Nat ⊕ Int32} {g : aH} (hst : l.stackTraces = false) (hf : fX1_setFeatures D h a0 a1 a2 = some (q, g)) : aM l D yX1_setFeatures cX1_setFeatures 4 (some .int) 8 124 [va_rf a0, .int a1, .int a2] h (wI q, g) :=
  aM.ofX [(false, va_rf a0), (false, .int a1), (false, .int a2)] rfl (ap_r (ap_c rfl (ap_c rfl ap_0))) (by decide +kernel) hst (al_of (aw_r (aw_i (aw_i aw_0))) (by decide)) fun p e s m args below meth c X => V.sub (lv' := [(0, false, va_rf a0), (1, false, .int a1), (2, false, .int a2)]) [0, 1, 2] rfl (vX1_setFeatures X hf)
def fX1_addStyle_p26 (D : aD) (h : aH) (a0 : Option Nat) (a1 : Int32) (t0 : Int32) : Option ((Nat ⊕ Int32) × aH) :=
  bndT (fX1_must D h t0) fun _ h3 =>
  (gR h3 0 9 a0).bind fun x4 =>
  bnd2 (fJ19_valueOf D h3 a1) fun x6 h7 =>
  (aIs h7 15 x4).bind fun _ =>
  bnd2 (fJ2_add D h7 x4 x6) fun x9 h10 =>
  (gR h10 0 9 a0).bind fun x11 =>
  (aIs h10 15 x11).bind fun _ =>
  (fJ2_size D h10 x11).bind fun x13 =>
  some (.inr (x13 - (1 : Int32)), h10)
theorem vX1_addStyle_p26 {h : aH} {a0 : Option Nat} {a1 : Int32} {t0 : Int32} {q : Nat ⊕ Int32} {g : aH} (X : aX p l R s m meth c D n0 s0 yX1_addStyle cX1_addStyle 7 152 2 (some .int) h0) (hf : fX1_addStyle_p26 D h a0 a1 t0 = some (q, g)) : V p l e R s m args below meth c D n0 s0 (aEnd D below args s h0 (wI q, g)) h 26 [(0, false, va_rf a0), (1, false, .int a1)] [.int t0] := by
  have C := X.1
  unfold fX1_addStyle_p26 at hf
  rcases bndT_eq hf with ⟨_, _, ex2, qx2⟩ | ⟨x2, h3, ex2, hf⟩
  · cases qx2; exact v_ofDx (pc := 26) C X.2.1 X.2.2.1 rfl X.2.2.2.2.1 (d_S (pc := 26) C (As := [.int t0]) (rest := []) q1595 q1596 yk_X1_must rfl (by decide) (by decide) (Nat.le_trans aw_0 (by decide)) rfl (mX1_must C.st ex2) dX1_addStyle_26)
  refine v_callU (pc := 26) (d_S (pc := 26) C (As := [.int t0]) (rest := []) q1595 q1596 yk_X1_must rfl (by decide) (by decide) (Nat.le_trans aw_0 (by decide)) rfl (mX1_must C.st ex2) dX1_addStyle_26) ?_
  refine v_aload_n (pc := 29) (j := 0) C dX1_addStyle_29 rfl rfl ?_
  obtain ⟨x4, ex4, hf⟩ := oB hf
  refine v_getF (pc := 30) C lk_X1_75 (gR_eq ex4) dX1_addStyle_30 ?_
  refine v_iload_n (pc := 33) (j := 1) C dX1_addStyle_33 rfl rfl ?_
  obtain ⟨x6, h7, ex6, hf⟩ := bnd2_eq hf
  refine v_call (pc := 34) (d_S (pc := 34) C (As := [.int a1]) (rest := [va_rf x4]) q2059 q2060 yk_J19_valueOf rfl (by decide) (by decide) (Nat.le_trans (aw_r aw_0) (by decide)) rfl (mJ19_valueOf C.st ex6) dX1_addStyle_34) ?_
  obtain ⟨b8, eb8, hf⟩ := oB hf
  obtain ⟨rb8, _, kb8⟩ := aIs_eq eb8
  obtain ⟨x9, h10, ex9, hf⟩ := bnd2_eq hf
  refine v_call (pc := 37) (d_V (pc := 37) C (As := [va_rf x6]) (rest := []) rb8 kb8 nt_15 q1673 yi_J2_add_java_util_ArrayList yk_J2_add rfl (by decide) (by decide) (Nat.le_trans aw_0 (by decide)) rfl (mJ2_add C.st ex9) dX1_addStyle_37) ?_
  refine v_pop (pc := 40) C dX1_addStyle_40 rfl ?_
  refine v_aload_n (pc := 41) (j := 0) C dX1_addStyle_41 rfl rfl ?_
  obtain ⟨x11, ex11, hf⟩ := oB hf
  refine v_getF (pc := 42) C lk_X1_75 (gR_eq ex11) dX1_addStyle_42 ?_
  obtain ⟨b12, eb12, hf⟩ := oB hf
  obtain ⟨rb12, _, kb12⟩ := aIs_eq eb12
  obtain ⟨x13, ex13, hf⟩ := oB hf
  refine v_call (pc := 45) (d_V (pc := 45) C (As := []) (rest := []) rb12 kb12 nt_15 q375 yi_J2_size_java_util_ArrayList yk_J2_size rfl (by decide) (by decide) (Nat.le_trans aw_0 (by decide)) rfl (mJ2_size C.st ex13) dX1_addStyle_45) ?_
  refine v_iconst (pc := 48) (v := (1 : Int32)) C dX1_addStyle_48 rfl ?_
  refine v_isub (pc := 49) C dX1_addStyle_49 ?_
  cases hf
  exact v_ireturn (pc := 50) C X.2.1 X.2.2.1 X.2.2.2.1 rfl dX1_addStyle_50
def fX1_addStyle (D : aD) (h : aH) (a0 : Option Nat) (a1 : Int32) : Option ((Nat ⊕ Int32) × aH) :=
  bndT (fX1_in D h a1 (0 : Int32) (999999 : Int32)) fun x2 h3 =>
  (gR h3 0 9 a0).bind fun x4 =>
  (aIs h3 15 x4).bind fun _ =>
  (fJ2_size D h3 x4).bind fun x6 =>
  fX1_addStyle_p26 D h3 a0 a1 (if (8 : Int32) ≤ x6 then (0 : Int32) else (1 : Int32))
theorem vX1_addStyle {h : aH} {a0 : Option Nat} {a1 : Int32} {q : Nat ⊕ Int32} {g : aH} (X : aX p l R s m meth c D n0 s0 yX1_addStyle cX1_addStyle 7 152 2 (some .int) h0) (hf : fX1_addStyle D h a0 a1 = some (q, g)) : V p l e R s m args below meth c D n0 s0 (aEnd D below args s h0 (wI q, g)) h 0 [(0, false, va_rf a0), (1, false, .int a1)] [] := by
  have C := X.1
  unfold fX1_addStyle at hf
  refine v_iload_n (pc := 0) (j := 1) C dX1_addStyle_0 rfl rfl ?_
  refine v_iconst (pc := 1) (v := (0 : Int32)) C dX1_addStyle_1 rfl ?_
  refine v_ldc_w (pc := 2) (v := (999999 : Int32)) C q2186 dX1_addStyle_2 ?_
  rcases bndT_eq hf with ⟨_, _, ex2, qx2⟩ | ⟨x2, h3, ex2, hf⟩
  · cases qx2; exact v_ofDx (pc := 5) C X.2.1 X.2.2.1 rfl X.2.2.2.2.1 (d_S (pc := 5) C (As := [.int a1, .int (0 : Int32), .int (999999 : Int32)]) (rest := []) q1578 q1579 yk_X1_in rfl (by decide) (by decide) (Nat.le_trans aw_0 (by decide)) rfl (mX1_in C.st ex2) dX1_addStyle_5)
  refine v_call (pc := 5) (d_S (pc := 5) C (As := [.int a1, .int (0 : Int32), .int (999999 : Int32)]) (rest := []) q1578 q1579 yk_X1_in rfl (by decide) (by decide) (Nat.le_trans aw_0 (by decide)) rfl (mX1_in C.st ex2) dX1_addStyle_5) ?_
  refine v_pop (pc := 8) C dX1_addStyle_8 rfl ?_
  refine v_aload_n (pc := 9) (j := 0) C dX1_addStyle_9 rfl rfl ?_
  obtain ⟨x4, ex4, hf⟩ := oB hf
  refine v_getF (pc := 10) C lk_X1_75 (gR_eq ex4) dX1_addStyle_10 ?_
  obtain ⟨b5, eb5, hf⟩ := oB hf
  obtain ⟨rb5, _, kb5⟩ := aIs_eq eb5
  obtain ⟨x6, ex6, hf⟩ := oB hf
  refine v_call (pc := 13) (d_V (pc := 13) C (As := []) (rest := []) rb5 kb5 nt_15 q375 yi_J2_size_java_util_ArrayList yk_J2_size rfl (by decide) (by decide) (Nat.le_trans aw_0 (by decide)) rfl (mJ2_size C.st ex6) dX1_addStyle_13) ?_
  refine v_bipush (pc := 16) (v := (8 : Int32)) C dX1_addStyle_16 rfl ?_
  refine v_icmp_ge (pc := 18) (tgt := 25) C dX1_addStyle_18 rfl (fun hc => ?_) (fun hc => ?_)
  · simp only [if_pos hc] at hf
    refine v_iconst (pc := 25) (v := (0 : Int32)) C dX1_addStyle_25 rfl ?_
    exact V.sub [0, 1] rfl (vX1_addStyle_p26 X hf)
  · simp only [if_neg hc] at hf
    refine v_iconst (pc := 21) (v := (1 : Int32)) C dX1_addStyle_21 rfl ?_
    refine v_goto (pc := 22) (tgt := 26) C dX1_addStyle_22 rfl ?_
    exact V.sub [0, 1] rfl (vX1_addStyle_p26 X hf)
theorem mX1_addStyle {l : Launch} {D : aD} {h : aH} {a0 : Option Nat} {a1 : Int32} {q : Nat ⊕ Int32} {g : aH} (hst : l.stackTraces = false) (hf : fX1_addStyle D h a0 a1 = some (q, g)) : aM l D yX1_addStyle cX1_addStyle 2 (some .int) 7 152 [va_rf a0, .int a1] h (wI q, g) :=
  aM.ofX [(false, va_rf a0), (false, .int a1)] rfl (ap_r (ap_c rfl ap_0)) (by decide +kernel) hst (al_of (aw_r (aw_i aw_0)) (by decide)) fun p e s m args below meth c X => V.sub (lv' := [(0, false, va_rf a0), (1, false, .int a1)]) [0, 1] rfl (vX1_addStyle X hf)
def fX1_styleOf (D : aD) (h : aH) (a0 : Option Nat) (a1 : Int32) : Option ((Nat ⊕ Int32) × aH) :=
  (aIs h 0 a0).bind fun _ =>
  bndT (fX1_figure D h a0 a1) fun x2 h3 =>
  (gI h3 4 6 x2).bind fun x4 =>
  (aIs h3 0 a0).bind fun _ =>
  (fX1_style D h3 a0 x4).bind fun x6 =>
  some (.inr x6, h3)
theorem vX1_styleOf {h : aH} {a0 : Option Nat} {a1 : Int32} {q : Nat ⊕ Int32} {g : aH} (X : aX p l R s m meth c D n0 s0 yX1_styleOf cX1_styleOf 8 124 2 (some .int) h0) (hf : fX1_styleOf D h a0 a1 = some (q, g)) : V p l e R s m args below meth c D n0 s0 (aEnd D below args s h0 (wI q, g)) h 0 [(0, false, va_rf a0), (1, false, .int a1)] [] := by
  have C := X.1
  unfold fX1_styleOf at hf
  refine v_aload_n (pc := 0) (j := 0) C dX1_styleOf_0 rfl rfl ?_
  refine v_aload_n (pc := 1) (j := 0) C dX1_styleOf_1 rfl rfl ?_
  refine v_iload_n (pc := 2) (j := 1) C dX1_styleOf_2 rfl rfl ?_
  obtain ⟨b1, eb1, hf⟩ := oB hf
  obtain ⟨rb1, _, kb1⟩ := aIs_eq eb1
  rcases bndT_eq hf with ⟨_, _, ex2, qx2⟩ | ⟨x2, h3, ex2, hf⟩
  · cases qx2; exact v_ofDx (pc := 3) C X.2.1 X.2.2.1 rfl X.2.2.2.2.1 (d_V (pc := 3) C (As := [.int a1]) (rest := [va_rf a0]) rb1 kb1 nt_0 q1849 yi_X1_figure_FigureSurvey yk_X1_figure rfl (by decide) (by decide) (Nat.le_trans (aw_r aw_0) (by decide)) rfl (mX1_figure C.st ex2) dX1_styleOf_3)
  refine v_call (pc := 3) (d_V (pc := 3) C (As := [.int a1]) (rest := [va_rf a0]) rb1 kb1 nt_0 q1849 yi_X1_figure_FigureSurvey yk_X1_figure rfl (by decide) (by decide) (Nat.le_trans (aw_r aw_0) (by decide)) rfl (mX1_figure C.st ex2) dX1_styleOf_3) ?_
  obtain ⟨x4, ex4, hf⟩ := oB hf
  refine v_getF (pc := 6) C lk_X1_392 (gI_eq ex4) dX1_styleOf_6 ?_
  obtain ⟨b5, eb5, hf⟩ := oB hf
  obtain ⟨rb5, _, kb5⟩ := aIs_eq eb5
  obtain ⟨x6, ex6, hf⟩ := oB hf
  refine v_call (pc := 9) (d_V (pc := 9) C (As := [.int x4]) (rest := []) rb5 kb5 nt_0 q2187 yi_X1_style_FigureSurvey yk_X1_style rfl (by decide) (by decide) (Nat.le_trans aw_0 (by decide)) rfl (mX1_style C.st ex6) dX1_styleOf_9) ?_
  cases hf
  exact v_ireturn (pc := 12) C X.2.1 X.2.2.1 X.2.2.2.1 rfl dX1_styleOf_12
theorem mX1_styleOf {l : Launch} {D : aD} {h : aH} {a0 : Option Nat} {a1 : Int32} {q : Nat ⊕ Int32} {g : aH} (hst : l.stackTraces = false) (hf : fX1_styleOf D h a0 a1 = some (q, g)) : aM l D yX1_styleOf cX1_styleOf 2 (some .int) 8 124 [va_rf a0, .int a1] h (wI q, g) :=
  aM.ofX [(false, va_rf a0), (false, .int a1)] rfl (ap_r (ap_c rfl ap_0)) (by decide +kernel) hst (al_of (aw_r (aw_i aw_0)) (by decide)) fun p e s m args below meth c X => V.sub (lv' := [(0, false, va_rf a0), (1, false, .int a1)]) [0, 1] rfl (vX1_styleOf X hf)
def fX1_lambda_addEntry_2 (D : aD) (h : aH) (a0 : Option Nat) (a1 : Option Nat) (a2 : Int32) : Option (Int32) :=
  (gR h 0 10 a0).bind fun x1 =>
  (aIs h 15 x1).bind fun _ =>
  (fJ2_get D h x1 a2).bind fun x3 =>
  (aCast h [11] x3).bind fun _ =>
  (gR h 11 0 x3).bind fun x6 =>
  if x6 = a1 then
  (some (1 : Int32))
  else
  (some (0 : Int32))
theorem vX1_lambda_addEntry_2 {h : aH} {a0 : Option Nat} {a1 : Option Nat} {a2 : Int32} {q : Int32} (X : aX p l R s m meth c D n0 s0 yX1_lambda_addEntry_2 cX1_lambda_addEntry_2 3 64 3 (some .boolean) h0) (hf : fX1_lambda_addEntry_2 D h a0 a1 a2 = some q) : V p l e R s m args below meth c D n0 s0 (aEnd D below args s h0 (.inr (some (.int q)), h)) h 0 [(0, false, va_rf a0), (1, false, va_rf a1), (2, false, .int a2)] [] := by
  have C := X.1
  unfold fX1_lambda_addEntry_2 at hf
  refine v_aload_n (pc := 0) (j := 0) C dX1_lambda_addEntry_2_0 rfl rfl ?_
  obtain ⟨x1, ex1, hf⟩ := oB hf
  refine v_getF (pc := 1) C lk_X1_78 (gR_eq ex1) dX1_lambda_addEntry_2_1 ?_
  refine v_iload_n (pc := 4) (j := 2) C dX1_lambda_addEntry_2_4 rfl rfl ?_
  obtain ⟨b2, eb2, hf⟩ := oB hf
  obtain ⟨rb2, _, kb2⟩ := aIs_eq eb2
  obtain ⟨x3, ex3, hf⟩ := oB hf
  refine v_call (pc := 5) (d_V (pc := 5) C (As := [.int a2]) (rest := []) rb2 kb2 nt_15 q379 yi_J2_get_java_util_ArrayList yk_J2_get rfl (by decide) (by decide) (Nat.le_trans aw_0 (by decide)) rfl (mJ2_get C.st ex3) dX1_lambda_addEntry_2_5) ?_
  obtain ⟨_, e5, hf⟩ := oB hf
  refine v_cast (pc := 8) C q2221 ct_FigureSurvey_Entry e5 dX1_lambda_addEntry_2_8 ?_
  obtain ⟨x6, ex6, hf⟩ := oB hf
  refine v_getF (pc := 11) C lk_X1_405 (gR_eq ex6) dX1_lambda_addEntry_2_11 ?_
  refine v_aload_n (pc := 14) (j := 1) C dX1_lambda_addEntry_2_14 rfl rfl ?_
  refine v_acmp_ne (pc := 15) (tgt := 22) C dX1_lambda_addEntry_2_15 rfl (fun hc => ?_) (fun hc => ?_)
  · rw [if_neg hc] at hf
    refine v_iconst (pc := 22) (v := (0 : Int32)) C dX1_lambda_addEntry_2_22 rfl ?_
    cases hf
    exact v_zreturn (pc := 23) C X.2.1 X.2.2.1 X.2.2.2.1 (by decide) rfl dX1_lambda_addEntry_2_23
  · rw [if_pos (Decidable.of_not_not hc)] at hf
    refine v_iconst (pc := 18) (v := (1 : Int32)) C dX1_lambda_addEntry_2_18 rfl ?_
    refine v_goto (pc := 19) (tgt := 23) C dX1_lambda_addEntry_2_19 rfl ?_
    cases hf
    exact v_zreturn (pc := 23) C X.2.1 X.2.2.1 X.2.2.2.1 (by decide) rfl dX1_lambda_addEntry_2_23
theorem mX1_lambda_addEntry_2 {l : Launch} {D : aD} {h : aH} {a0 : Option Nat} {a1 : Option Nat} {a2 : Int32} {q : Int32} (hst : l.stackTraces = false) (hf : fX1_lambda_addEntry_2 D h a0 a1 a2 = some q) : aM l D yX1_lambda_addEntry_2 cX1_lambda_addEntry_2 3 (some .boolean) 3 64 [va_rf a0, va_rf a1, .int a2] h (.inr (some (.int q)), h) :=
  aM.ofX [(false, va_rf a0), (false, va_rf a1), (false, .int a2)] rfl (ap_r (ap_r (ap_c rfl ap_0))) (by decide +kernel) hst (al_of (aw_r (aw_r (aw_i aw_0))) (by decide)) fun p e s m args below meth c X => V.sub (lv' := [(0, false, va_rf a0), (1, false, va_rf a1), (2, false, .int a2)]) [0, 1, 2] rfl (vX1_lambda_addEntry_2 X hf)
def fX1_findMatches_p56 (D : aD) (K23 : aH → (Option Nat) → (Option Nat) → (Option Nat) → Int32 → Int32 → Int32 → Option (aH)) (h : aH) (a0 : Option Nat) (a1 : Option Nat) (a2 : Option Nat) (a3 : Int32) (a4 : Int32) (a5 : Int32) (t0 : Option Nat) (t1 : Int32) (t2 : Int32) : Option (aH) :=
  (sF D h 100 t0 t1 (.int t2)).bind fun h1 =>
  K23 h1 a0 a1 a2 a3 a4 (a5 + 1)
theorem vX1_findMatches_p56 {h : aH} {K23 : aH → (Option Nat) → (Option Nat) → (Option Nat) → Int32 → Int32 → Int32 → Option (aH)} {a0 : Option Nat} {a1 : Option Nat} {a2 : Option Nat} {a3 : Int32} {a4 : Int32} {a5 : Int32} {t0 : Option Nat} {t1 : Int32} {t2 : Int32} {g : aH} (X : aX p l R s m meth c D n0 s0 yX1_findMatches cX1_findMatches 3 64 8 (none) h0) (k23 : ∀ (h : aH) (a0 : Option Nat) (a1 : Option Nat) (a2 : Option Nat) (a3 : Int32) (a4 : Int32) (a5 : Int32) (g : aH), K23 h a0 a1 a2 a3 a4 a5 = some g → V p l e R s m args below meth c D n0 s0 (aEnd D below args s h0 (.inr none, g)) h 23 [(0, false, va_rf a0), (1, false, va_rf a1), (2, false, va_rf a2), (3, false, .int a3), (4, false, .int a4), (5, false, .int a5)] []) (hf : fX1_findMatches_p56 D K23 h a0 a1 a2 a3 a4 a5 t0 t1 t2 = some g) : V p l e R s m args below meth c D n0 s0 (aEnd D below args s h0 (.inr none, g)) h 56 [(0, false, va_rf a0), (1, false, va_rf a1), (2, false, va_rf a2), (3, false, .int a3), (4, false, .int a4), (5, false, .int a5)] [.int t2, .int t1, va_rf t0] := by
  have C := X.1
  unfold fX1_findMatches_p56 at hf
  obtain ⟨h1, eh1, hf⟩ := oB hf
  refine v_iastore (pc := 56) C eh1 dX1_findMatches_56 ?_
  refine v_iinc (pc := 57) (j := 5) (v := (a5 + 1)) (lv' := [(5, false, .int (a5 + 1)), (0, false, va_rf a0), (1, false, va_rf a1), (2, false, va_rf a2), (3, false, .int a3), (4, false, .int a4)]) C dX1_findMatches_57 rfl rfl (by decide) rfl ?_
  refine v_goto (pc := 60) (tgt := 23) C dX1_findMatches_60 rfl ?_
  exact V.sub [1, 2, 3, 4, 5, 0] rfl (k23 _ _ _ _ _ _ _ _ hf)
def fX1_findMatches_p198 (D : aD) (K71 : aH → (Option Nat) → (Option Nat) → (Option Nat) → Int32 → Int32 → Option (aH)) (K79 : aH → (Option Nat) → (Option Nat) → (Option Nat) → Int32 → Int32 → Int32 → Option (aH)) (K111 : aH → (Option Nat) → (Option Nat) → (Option Nat) → Int32 → Int32 → Int32 → Int32 → Option (aH)) (h : aH) (a0 : Option Nat) (a1 : Option Nat) (a2 : Option Nat) (a4 : Int32) (a5 : Int32) (a6 : Int32) (a7 : Int32) : Option (aH) :=
  K111 h a0 a1 a2 a4 a5 a6 (a7 + 1)
theorem vX1_findMatches_p198 {h : aH} {K71 : aH → (Option Nat) → (Option Nat) → (Option Nat) → Int32 → Int32 → Option (aH)} {K79 : aH → (Option Nat) → (Option Nat) → (Option Nat) → Int32 → Int32 → Int32 → Option (aH)} {K111 : aH → (Option Nat) → (Option Nat) → (Option Nat) → Int32 → Int32 → Int32 → Int32 → Option (aH)} {a0 : Option Nat} {a1 : Option Nat} {a2 : Option Nat} {a4 : Int32} {a5 : Int32} {a6 : Int32} {a7 : Int32} {g : aH} (X : aX p l R s m meth c D n0 s0 yX1_findMatches cX1_findMatches 3 64 8 (none) h0) (k71 : ∀ (h : aH) (a0 : Option Nat) (a1 : Option Nat) (a2 : Option Nat) (a4 : Int32) (a5 : Int32) (g : aH), K71 h a0 a1 a2 a4 a5 = some g → V p l e R s m args below meth c D n0 s0 (aEnd D below args s h0 (.inr none, g)) h 71 [(0, false, va_rf a0), (1, false, va_rf a1), (2, false, va_rf a2), (4, false, .int a4), (5, false, .int a5)] []) (k79 : ∀ (h : aH) (a0 : Option Nat) (a1 : Option Nat) (a2 : Option Nat) (a4 : Int32) (a5 : Int32) (a6 : Int32) (g : aH), K79 h a0 a1 a2 a4 a5 a6 = some g → V p l e R s m args below meth c D n0 s0 (aEnd D below args s h0 (.inr none, g)) h 79 [(0, false, va_rf a0), (1, false, va_rf a1), (2, false, va_rf a2), (4, false, .int a4), (5, false, .int a5), (6, false, .int a6)] []) (k111 : ∀ (h : aH) (a0 : Option Nat) (a1 : Option Nat) (a2 : Option Nat) (a4 : Int32) (a5 : Int32) (a6 : Int32) (a7 : Int32) (g : aH), K111 h a0 a1 a2 a4 a5 a6 a7 = some g → V p l e R s m args below meth c D n0 s0 (aEnd D below args s h0 (.inr none, g)) h 111 [(0, false, va_rf a0), (1, false, va_rf a1), (2, false, va_rf a2), (4, false, .int a4), (5, false, .int a5), (6, false, .int a6), (7, false, .int a7)] []) (hf : fX1_findMatches_p198 D K71 K79 K111 h a0 a1 a2 a4 a5 a6 a7 = some g) : V p l e R s m args below meth c D n0 s0 (aEnd D below args s h0 (.inr none, g)) h 198 [(0, false, va_rf a0), (1, false, va_rf a1), (2, false, va_rf a2), (4, false, .int a4), (5, false, .int a5), (6, false, .int a6), (7, false, .int a7)] [] := by
  have C := X.1
  unfold fX1_findMatches_p198 at hf
  refine v_iinc (pc := 198) (j := 6) (v := (a7 + 1)) (lv' := [(7, false, .int (a7 + 1)), (0, false, va_rf a0), (1, false, va_rf a1), (2, false, va_rf a2), (4, false, .int a4), (5, false, .int a5), (6, false, .int a6)]) C dX1_findMatches_198 rfl rfl (by decide) rfl ?_
  refine v_goto (pc := 201) (tgt := 111) C dX1_findMatches_201 rfl ?_
  exact V.sub [1, 2, 3, 4, 5, 6, 0] rfl (k111 _ _ _ _ _ _ _ _ _ hf)
def fX1_findMatches_p204 (D : aD) (K71 : aH → (Option Nat) → (Option Nat) → (Option Nat) → Int32 → Int32 → Option (aH)) (K79 : aH → (Option Nat) → (Option Nat) → (Option Nat) → Int32 → Int32 → Int32 → Option (aH)) (h : aH) (a0 : Option Nat) (a1 : Option Nat) (a2 : Option Nat) (a4 : Int32) (a5 : Int32) (a6 : Int32) : Option (aH) :=
  K79 h a0 a1 a2 a4 a5 (a6 + 1)
theorem vX1_findMatches_p204 {h : aH} {K71 : aH → (Option Nat) → (Option Nat) → (Option Nat) → Int32 → Int32 → Option (aH)} {K79 : aH → (Option Nat) → (Option Nat) → (Option Nat) → Int32 → Int32 → Int32 → Option (aH)} {a0 : Option Nat} {a1 : Option Nat} {a2 : Option Nat} {a4 : Int32} {a5 : Int32} {a6 : Int32} {g : aH} (X : aX p l R s m meth c D n0 s0 yX1_findMatches cX1_findMatches 3 64 8 (none) h0) (k71 : ∀ (h : aH) (a0 : Option Nat) (a1 : Option Nat) (a2 : Option Nat) (a4 : Int32) (a5 : Int32) (g : aH), K71 h a0 a1 a2 a4 a5 = some g → V p l e R s m args below meth c D n0 s0 (aEnd D below args s h0 (.inr none, g)) h 71 [(0, false, va_rf a0), (1, false, va_rf a1), (2, false, va_rf a2), (4, false, .int a4), (5, false, .int a5)] []) (k79 : ∀ (h : aH) (a0 : Option Nat) (a1 : Option Nat) (a2 : Option Nat) (a4 : Int32) (a5 : Int32) (a6 : Int32) (g : aH), K79 h a0 a1 a2 a4 a5 a6 = some g → V p l e R s m args below meth c D n0 s0 (aEnd D below args s h0 (.inr none, g)) h 79 [(0, false, va_rf a0), (1, false, va_rf a1), (2, false, va_rf a2), (4, false, .int a4), (5, false, .int a5), (6, false, .int a6)] []) (hf : fX1_findMatches_p204 D K71 K79 h a0 a1 a2 a4 a5 a6 = some g) : V p l e R s m args below meth c D n0 s0 (aEnd D below args s h0 (.inr none, g)) h 204 [(0, false, va_rf a0), (1, false, va_rf a1), (2, false, va_rf a2), (4, false, .int a4), (5, false, .int a5), (6, false, .int a6)] [] := by
  have C := X.1
  unfold fX1_findMatches_p204 at hf
  refine v_iinc (pc := 204) (j := 5) (v := (a6 + 1)) (lv' := [(6, false, .int (a6 + 1)), (0, false, va_rf a0), (1, false, va_rf a1), (2, false, va_rf a2), (4, false, .int a4), (5, false, .int a5)]) C dX1_findMatches_204 rfl rfl (by decide) rfl ?_
  refine v_goto (pc := 207) (tgt := 79) C dX1_findMatches_207 rfl ?_
  exact V.sub [1, 2, 3, 4, 5, 0] rfl (k79 _ _ _ _ _ _ _ _ hf)
def fX1_findMatches_p111 (D : aD) (K71 : aH → (Option Nat) → (Option Nat) → (Option Nat) → Int32 → Int32 → Option (aH)) (K79 : aH → (Option Nat) → (Option Nat) → (Option Nat) → Int32 → Int32 → Int32 → Option (aH)) : Nat → aH → (Option Nat) → (Option Nat) → (Option Nat) → Int32 → Int32 → Int32 → Int32 → Option (aH)
  | 0, _, _, _, _, _, _, _, _ => none
  | n + 1, h, a0, a1, a2, a4, a5, a6, a7 =>
  (aIs h 15 a2).bind fun _ =>
  (fJ2_size D h a2).bind fun x2 =>
  if x2 ≤ a7 then
  (fX1_findMatches_p204 D K71 K79 h a0 a1 a2 a4 a5 a6)
  else
  ((fX1_has_2 D h a6 a7).bind fun x5 =>
  if x5 = 0 then
  ((gR h 0 16 a0).bind fun x7 =>
  (eR h x7 a5).bind fun x8 =>
  (gR h 0 16 a0).bind fun x9 =>
  (eR h x9 a5).bind fun x10 =>
  (eI h x10 a6).bind fun x11 =>
  (aIs h 15 a1).bind fun _ =>
  (fJ2_get D h a1 a5).bind fun x13 =>
  (aCast h [11] x13).bind fun _ =>
  (gI h 11 1 x13).bind fun x16 =>
  (aIs h 15 a2).bind fun _ =>
  (fJ2_get D h a2 a7).bind fun x18 =>
  (aCast h [4] x18).bind fun _ =>
  (gI h 4 6 x18).bind fun x21 =>
  (fX1_distance D h x16 x21).bind fun x23 =>
  (gR h 0 16 a0).bind fun x25 =>
  (eR h x25 (a5 + (1 : Int32))).bind fun x26 =>
  (eI h x26 (a6 ||| ((1 : Int32) <<< (a7 &&& 31)))).bind fun x27 =>
  (fJ11_min D h x11 (x23 + x27)).bind fun x29 =>
  (sF D h 100 x8 a6 (.int x29)).bind fun h31 =>
  fX1_findMatches_p198 D K71 K79 (fX1_findMatches_p111 D K71 K79 n) h31 a0 a1 a2 a4 a5 a6 a7)
  else
  (fX1_findMatches_p198 D K71 K79 (fX1_findMatches_p111 D K71 K79 n) h a0 a1 a2 a4 a5 a6 a7))
theorem vX1_findMatches_p111 {K71 : aH → (Option Nat) → (Option Nat) → (Option Nat) → Int32 → Int32 → Option (aH)} {K79 : aH → (Option Nat) → (Option Nat) → (Option Nat) → Int32 → Int32 → Int32 → Option (aH)} (X : aX p l R s m meth c D n0 s0 yX1_findMatches cX1_findMatches 3 64 8 (none) h0) (k71 : ∀ (h : aH) (a0 : Option Nat) (a1 : Option Nat) (a2 : Option Nat) (a4 : Int32) (a5 : Int32) (g : aH), K71 h a0 a1 a2 a4 a5 = some g → V p l e R s m args below meth c D n0 s0 (aEnd D below args s h0 (.inr none, g)) h 71 [(0, false, va_rf a0), (1, false, va_rf a1), (2, false, va_rf a2), (4, false, .int a4), (5, false, .int a5)] []) (k79 : ∀ (h : aH) (a0 : Option Nat) (a1 : Option Nat) (a2 : Option Nat) (a4 : Int32) (a5 : Int32) (a6 : Int32) (g : aH), K79 h a0 a1 a2 a4 a5 a6 = some g → V p l e R s m args below meth c D n0 s0 (aEnd D below args s h0 (.inr none, g)) h 79 [(0, false, va_rf a0), (1, false, va_rf a1), (2, false, va_rf a2), (4, false, .int a4), (5, false, .int a5), (6, false, .int a6)] []) : ∀ (n : Nat) (h : aH) (a0 : Option Nat) (a1 : Option Nat) (a2 : Option Nat) (a4 : Int32) (a5 : Int32) (a6 : Int32) (a7 : Int32) (g : aH), fX1_findMatches_p111 D K71 K79 n h a0 a1 a2 a4 a5 a6 a7 = some g → V p l e R s m args below meth c D n0 s0 (aEnd D below args s h0 (.inr none, g)) h 111 [(0, false, va_rf a0), (1, false, va_rf a1), (2, false, va_rf a2), (4, false, .int a4), (5, false, .int a5), (6, false, .int a6), (7, false, .int a7)] [] := by
  have C := X.1
  intro n
  induction n with
  | zero =>
    intro _ _ _ _ _ _ _ _ _ hf
    rw [fX1_findMatches_p111] at hf
    cases hf
  | succ n ih =>
    intro h a0 a1 a2 a4 a5 a6 a7 g hf
    rw [fX1_findMatches_p111] at hf
    refine v_iload (pc := 111) (j := 6) C dX1_findMatches_111 rfl ?_
    refine v_aload_n (pc := 113) (j := 2) C dX1_findMatches_113 rfl rfl ?_
    obtain ⟨b1, eb1, hf⟩ := oB hf
    obtain ⟨rb1, _, kb1⟩ := aIs_eq eb1
    obtain ⟨x2, ex2, hf⟩ := oB hf
    refine v_call (pc := 114) (d_V (pc := 114) C (As := []) (rest := [.int a7]) rb1 kb1 nt_15 q375 yi_J2_size_java_util_ArrayList yk_J2_size rfl (by decide) (by decide) (Nat.le_trans (aw_i aw_0) (by decide)) rfl (mJ2_size C.st ex2) dX1_findMatches_114) ?_
    refine v_icmp_ge (pc := 117) (tgt := 204) C dX1_findMatches_117 rfl (fun hc => ?_) (fun hc => ?_)
    · rw [if_pos hc] at hf
      exact V.sub [0, 1, 2, 3, 4, 5] rfl (vX1_findMatches_p204 X k71 k79 hf)
    · rw [if_neg hc] at hf
      refine v_iload (pc := 120) (j := 5) C dX1_findMatches_120 rfl ?_
      refine v_iload (pc := 122) (j := 6) C dX1_findMatches_122 rfl ?_
      obtain ⟨x5, ex5, hf⟩ := oB hf
      refine v_call (pc := 124) (d_S (pc := 124) C (As := [.int a6, .int a7]) (rest := []) q1251 q1244 yk_X1_has_2 rfl (by decide) (by decide) (Nat.le_trans aw_0 (by decide)) rfl (mX1_has_2 C.st ex5) dX1_findMatches_124) ?_
      refine v_if_ne (pc := 127) (tgt := 198) C dX1_findMatches_127 rfl (fun hc => ?_) (fun hc => ?_)
      · rw [if_neg hc] at hf
        exact V.sub [0, 1, 2, 3, 4, 5, 6] rfl (vX1_findMatches_p198 X k71 k79 ih hf)
      · rw [if_pos (Decidable.of_not_not hc)] at hf
        refine v_aload_n (pc := 130) (j := 0) C dX1_findMatches_130 rfl rfl ?_
        obtain ⟨x7, ex7, hf⟩ := oB hf
        refine v_getF (pc := 131) C lk_X1_90 (gR_eq ex7) dX1_findMatches_131 ?_
        refine v_iload (pc := 134) (j := 4) C dX1_findMatches_134 rfl ?_
        obtain ⟨x8, ex8, hf⟩ := oB hf
        refine v_aaload (pc := 136) C ex8 dX1_findMatches_136 ?_
        refine v_iload (pc := 137) (j := 5) C dX1_findMatches_137 rfl ?_
        refine v_aload_n (pc := 139) (j := 0) C dX1_findMatches_139 rfl rfl ?_
        obtain ⟨x9, ex9, hf⟩ := oB hf
        refine v_getF (pc := 140) C lk_X1_90 (gR_eq ex9) dX1_findMatches_140 ?_
        refine v_iload (pc := 143) (j := 4) C dX1_findMatches_143 rfl ?_
        obtain ⟨x10, ex10, hf⟩ := oB hf
        refine v_aaload (pc := 145) C ex10 dX1_findMatches_145 ?_
        refine v_iload (pc := 146) (j := 5) C dX1_findMatches_146 rfl ?_
        obtain ⟨x11, ex11, hf⟩ := oB hf
        refine v_iaload (pc := 148) C ex11 dX1_findMatches_148 ?_
        refine v_aload_n (pc := 149) (j := 1) C dX1_findMatches_149 rfl rfl ?_
        refine v_iload (pc := 150) (j := 4) C dX1_findMatches_150 rfl ?_
        obtain ⟨b12, eb12, hf⟩ := oB hf
        obtain ⟨rb12, _, kb12⟩ := aIs_eq eb12
        obtain ⟨x13, ex13, hf⟩ := oB hf
        refine v_call (pc := 152) (d_V (pc := 152) C (As := [.int a5]) (rest := [.int x11, .int a6, va_rf x8]) rb12 kb12 nt_15 q379 yi_J2_get_java_util_ArrayList yk_J2_get rfl (by decide) (by decide) (Nat.le_trans (aw_i (aw_i (aw_r aw_0))) (by decide)) rfl (mJ2_get C.st ex13) dX1_findMatches_152) ?_
        obtain ⟨_, e15, hf⟩ := oB hf
        refine v_cast (pc := 155) C q2221 ct_FigureSurvey_Entry e15 dX1_findMatches_155 ?_
        obtain ⟨x16, ex16, hf⟩ := oB hf
        refine v_getF (pc := 158) C lk_X1_404 (gI_eq ex16) dX1_findMatches_158 ?_
        refine v_aload_n (pc := 161) (j := 2) C dX1_findMatches_161 rfl rfl ?_
        refine v_iload (pc := 162) (j := 6) C dX1_findMatches_162 rfl ?_
        obtain ⟨b17, eb17, hf⟩ := oB hf
        obtain ⟨rb17, _, kb17⟩ := aIs_eq eb17
        obtain ⟨x18, ex18, hf⟩ := oB hf
        refine v_call (pc := 164) (d_V (pc := 164) C (As := [.int a7]) (rest := [.int x16, .int x11, .int a6, va_rf x8]) rb17 kb17 nt_15 q379 yi_J2_get_java_util_ArrayList yk_J2_get rfl (by decide) (by decide) (Nat.le_trans (aw_i (aw_i (aw_i (aw_r aw_0)))) (by decide)) rfl (mJ2_get C.st ex18) dX1_findMatches_164) ?_
        obtain ⟨_, e20, hf⟩ := oB hf
        refine v_cast (pc := 167) C q514 ct_FigureSurvey_Figure e20 dX1_findMatches_167 ?_
        obtain ⟨x21, ex21, hf⟩ := oB hf
        refine v_getF (pc := 170) C lk_X1_392 (gI_eq ex21) dX1_findMatches_170 ?_
        obtain ⟨x23, ex23, hf⟩ := oB hf
        refine v_call (pc := 173) (d_S (pc := 173) C (As := [.int x16, .int x21]) (rest := [.int x11, .int a6, va_rf x8]) q2193 q2194 yk_X1_distance rfl (by decide) (by decide) (Nat.le_trans (aw_i (aw_i (aw_r aw_0))) (by decide)) rfl (mX1_distance C.st ex23) dX1_findMatches_173) ?_
        refine v_aload_n (pc := 176) (j := 0) C dX1_findMatches_176 rfl rfl ?_
        obtain ⟨x25, ex25, hf⟩ := oB hf
        refine v_getF (pc := 177) C lk_X1_90 (gR_eq ex25) dX1_findMatches_177 ?_
        refine v_iload (pc := 180) (j := 4) C dX1_findMatches_180 rfl ?_
        refine v_iconst (pc := 182) (v := (1 : Int32)) C dX1_findMatches_182 rfl ?_
        refine v_iadd (pc := 183) C dX1_findMatches_183 ?_
        obtain ⟨x26, ex26, hf⟩ := oB hf
        refine v_aaload (pc := 184) C ex26 dX1_findMatches_184 ?_
        refine v_iload (pc := 185) (j := 5) C dX1_findMatches_185 rfl ?_
        refine v_iconst (pc := 187) (v := (1 : Int32)) C dX1_findMatches_187 rfl ?_
        refine v_iload (pc := 188) (j := 6) C dX1_findMatches_188 rfl ?_
        refine v_ishl (pc := 190) C dX1_findMatches_190 ?_
        refine v_ior (pc := 191) C dX1_findMatches_191 ?_
        obtain ⟨x27, ex27, hf⟩ := oB hf
        refine v_iaload (pc := 192) C ex27 dX1_findMatches_192 ?_
        refine v_iadd (pc := 193) C dX1_findMatches_193 ?_
        obtain ⟨x29, ex29, hf⟩ := oB hf
        refine v_call (pc := 194) (d_S (pc := 194) C (As := [.int x11, .int (x23 + x27)]) (rest := [.int a6, va_rf x8]) q1256 q477 yk_J11_min rfl (by decide) (by decide) (Nat.le_trans (aw_i (aw_r aw_0)) (by decide)) rfl (mJ11_min C.st ex29) dX1_findMatches_194) ?_
        obtain ⟨h31, eh31, hf⟩ := oB hf
        refine v_iastore (pc := 197) C eh31 dX1_findMatches_197 ?_
        exact V.sub [0, 1, 2, 3, 4, 5, 6] rfl (vX1_findMatches_p198 X k71 k79 ih hf)
def fX1_findMatches_p210 (D : aD) (K71 : aH → (Option Nat) → (Option Nat) → (Option Nat) → Int32 → Int32 → Option (aH)) (h : aH) (a0 : Option Nat) (a1 : Option Nat) (a2 : Option Nat) (a4 : Int32) (a5 : Int32) : Option (aH) :=
  K71 h a0 a1 a2 a4 (a5 + (-1))
theorem vX1_findMatches_p210 {h : aH} {K71 : aH → (Option Nat) → (Option Nat) → (Option Nat) → Int32 → Int32 → Option (aH)} {a0 : Option Nat} {a1 : Option Nat} {a2 : Option Nat} {a4 : Int32} {a5 : Int32} {g : aH} (X : aX p l R s m meth c D n0 s0 yX1_findMatches cX1_findMatches 3 64 8 (none) h0) (k71 : ∀ (h : aH) (a0 : Option Nat) (a1 : Option Nat) (a2 : Option Nat) (a4 : Int32) (a5 : Int32) (g : aH), K71 h a0 a1 a2 a4 a5 = some g → V p l e R s m args below meth c D n0 s0 (aEnd D below args s h0 (.inr none, g)) h 71 [(0, false, va_rf a0), (1, false, va_rf a1), (2, false, va_rf a2), (4, false, .int a4), (5, false, .int a5)] []) (hf : fX1_findMatches_p210 D K71 h a0 a1 a2 a4 a5 = some g) : V p l e R s m args below meth c D n0 s0 (aEnd D below args s h0 (.inr none, g)) h 210 [(0, false, va_rf a0), (1, false, va_rf a1), (2, false, va_rf a2), (4, false, .int a4), (5, false, .int a5)] [] := by
  have C := X.1
  unfold fX1_findMatches_p210 at hf
  refine v_iinc (pc := 210) (j := 4) (v := (a5 + (-1))) (lv' := [(5, false, .int (a5 + (-1))), (0, false, va_rf a0), (1, false, va_rf a1), (2, false, va_rf a2), (4, false, .int a4)]) C dX1_findMatches_210 rfl rfl (by decide) rfl ?_
  refine v_goto (pc := 213) (tgt := 71) C dX1_findMatches_213 rfl ?_
  exact V.sub [1, 2, 3, 4, 0] rfl (k71 _ _ _ _ _ _ _ hf)
def fX1_findMatches_p79 (D : aD) (K71 : aH → (Option Nat) → (Option Nat) → (Option Nat) → Int32 → Int32 → Option (aH)) : Nat → aH → (Option Nat) → (Option Nat) → (Option Nat) → Int32 → Int32 → Int32 → Option (aH)
  | 0, _, _, _, _, _, _, _ => none
  | n + 1, h, a0, a1, a2, a4, a5, a6 =>
  if a4 ≤ a6 then
  (fX1_findMatches_p210 D K71 h a0 a1 a2 a4 a5)
  else
  ((gR h 0 16 a0).bind fun x1 =>
  (eR h x1 a5).bind fun x2 =>
  (gR h 0 16 a0).bind fun x3 =>
  (eR h x3 (a5 + (1 : Int32))).bind fun x4 =>
  (eI h x4 a6).bind fun x5 =>
  (sF D h 100 x2 a6 (.int x5)).bind fun h6 =>
  fX1_findMatches_p111 D K71 (fX1_findMatches_p79 D K71 n) FU h6 a0 a1 a2 a4 a5 a6 (0 : Int32))
theorem vX1_findMatches_p79 {K71 : aH → (Option Nat) → (Option Nat) → (Option Nat) → Int32 → Int32 → Option (aH)} (X : aX p l R s m meth c D n0 s0 yX1_findMatches cX1_findMatches 3 64 8 (none) h0) (k71 : ∀ (h : aH) (a0 : Option Nat) (a1 : Option Nat) (a2 : Option Nat) (a4 : Int32) (a5 : Int32) (g : aH), K71 h a0 a1 a2 a4 a5 = some g → V p l e R s m args below meth c D n0 s0 (aEnd D below args s h0 (.inr none, g)) h 71 [(0, false, va_rf a0), (1, false, va_rf a1), (2, false, va_rf a2), (4, false, .int a4), (5, false, .int a5)] []) : ∀ (n : Nat) (h : aH) (a0 : Option Nat) (a1 : Option Nat) (a2 : Option Nat) (a4 : Int32) (a5 : Int32) (a6 : Int32) (g : aH), fX1_findMatches_p79 D K71 n h a0 a1 a2 a4 a5 a6 = some g → V p l e R s m args below meth c D n0 s0 (aEnd D below args s h0 (.inr none, g)) h 79 [(0, false, va_rf a0), (1, false, va_rf a1), (2, false, va_rf a2), (4, false, .int a4), (5, false, .int a5), (6, false, .int a6)] [] := by
  have C := X.1
  intro n
  induction n with
  | zero =>
    intro _ _ _ _ _ _ _ _ hf
    rw [fX1_findMatches_p79] at hf
    cases hf
  | succ n ih =>
    intro h a0 a1 a2 a4 a5 a6 g hf
    rw [fX1_findMatches_p79] at hf
    refine v_iload (pc := 79) (j := 5) C dX1_findMatches_79 rfl ?_
    refine v_iload (pc := 81) (j := 3) C dX1_findMatches_81 rfl ?_
    refine v_icmp_ge (pc := 83) (tgt := 210) C dX1_findMatches_83 rfl (fun hc => ?_) (fun hc => ?_)
    · rw [if_pos hc] at hf
      exact V.sub [0, 1, 2, 3, 4] rfl (vX1_findMatches_p210 X k71 hf)
    · rw [if_neg hc] at hf
      refine v_aload_n (pc := 86) (j := 0) C dX1_findMatches_86 rfl rfl ?_
      obtain ⟨x1, ex1, hf⟩ := oB hf
      refine v_getF (pc := 87) C lk_X1_90 (gR_eq ex1) dX1_findMatches_87 ?_
      refine v_iload (pc := 90) (j := 4) C dX1_findMatches_90 rfl ?_
      obtain ⟨x2, ex2, hf⟩ := oB hf
      refine v_aaload (pc := 92) C ex2 dX1_findMatches_92 ?_
      refine v_iload (pc := 93) (j := 5) C dX1_findMatches_93 rfl ?_
      refine v_aload_n (pc := 95) (j := 0) C dX1_findMatches_95 rfl rfl ?_
      obtain ⟨x3, ex3, hf⟩ := oB hf
      refine v_getF (pc := 96) C lk_X1_90 (gR_eq ex3) dX1_findMatches_96 ?_
      refine v_iload (pc := 99) (j := 4) C dX1_findMatches_99 rfl ?_
      refine v_iconst (pc := 101) (v := (1 : Int32)) C dX1_findMatches_101 rfl ?_
      refine v_iadd (pc := 102) C dX1_findMatches_102 ?_
      obtain ⟨x4, ex4, hf⟩ := oB hf
      refine v_aaload (pc := 103) C ex4 dX1_findMatches_103 ?_
      refine v_iload (pc := 104) (j := 5) C dX1_findMatches_104 rfl ?_
      obtain ⟨x5, ex5, hf⟩ := oB hf
      refine v_iaload (pc := 106) C ex5 dX1_findMatches_106 ?_
      obtain ⟨h6, eh6, hf⟩ := oB hf
      refine v_iastore (pc := 107) C eh6 dX1_findMatches_107 ?_
      refine v_iconst (pc := 108) (v := (0 : Int32)) C dX1_findMatches_108 rfl ?_
      refine v_istore (pc := 109) (lv' := [(7, false, .int (0 : Int32)), (0, false, va_rf a0), (1, false, va_rf a1), (2, false, va_rf a2), (4, false, .int a4), (5, false, .int a5), (6, false, .int a6)]) C dX1_findMatches_109 (by decide) rfl ?_
      exact V.sub [1, 2, 3, 4, 5, 6, 0] rfl (vX1_findMatches_p111 X k71 ih _ _ _ _ _ _ _ _ _ _ hf)
def fX1_findMatches_p71 (D : aD) : Nat → aH → (Option Nat) → (Option Nat) → (Option Nat) → Int32 → Int32 → Option (aH)
  | 0, _, _, _, _, _, _ => none
  | n + 1, h, a0, a1, a2, a4, a5 =>
  if a5 < 0 then
  (some h)
  else
  (fX1_findMatches_p79 D (fX1_findMatches_p71 D n) FU h a0 a1 a2 a4 a5 (0 : Int32))
theorem vX1_findMatches_p71 (X : aX p l R s m meth c D n0 s0 yX1_findMatches cX1_findMatches 3 64 8 (none) h0) : ∀ (n : Nat) (h : aH) (a0 : Option Nat) (a1 : Option Nat) (a2 : Option Nat) (a4 : Int32) (a5 : Int32) (g : aH), fX1_findMatches_p71 D n h a0 a1 a2 a4 a5 = some g → V p l e R s m args below meth c D n0 s0 (aEnd D below args s h0 (.inr none, g)) h 71 [(0, false, va_rf a0), (1, false, va_rf a1), (2, false, va_rf a2), (4, false, .int a4), (5, false, .int a5)] [] := by
  have C := X.1
  intro n
  induction n with
  | zero =>
    intro _ _ _ _ _ _ _ hf
    rw [fX1_findMatches_p71] at hf
    cases hf
  | succ n ih =>
    intro h a0 a1 a2 a4 a5 g hf
    rw [fX1_findMatches_p71] at hf
    refine v_iload (pc := 71) (j := 4) C dX1_findMatches_71 rfl ?_
    refine v_if_lt (pc := 73) (tgt := 216) C dX1_findMatches_73 rfl (fun hc => ?_) (fun hc => ?_)
    · rw [if_pos hc] at hf
      cases hf
      exact v_return (pc := 216) C X.2.1 X.2.2.1 X.2.2.2.1 rfl dX1_findMatches_216
    · rw [if_neg hc] at hf
      refine v_iconst (pc := 76) (v := (0 : Int32)) C dX1_findMatches_76 rfl ?_
      refine v_istore (pc := 77) (lv' := [(6, false, .int (0 : Int32)), (0, false, va_rf a0), (1, false, va_rf a1), (2, false, va_rf a2), (4, false, .int a4), (5, false, .int a5)]) C dX1_findMatches_77 (by decide) rfl ?_
      exact V.sub [1, 2, 3, 4, 5, 0] rfl (vX1_findMatches_p79 X ih _ _ _ _ _ _ _ _ _ hf)
def fX1_findMatches_p63 (D : aD) (h : aH) (a0 : Option Nat) (a1 : Option Nat) (a2 : Option Nat) (a4 : Int32) : Option (aH) :=
  (aIs h 15 a1).bind fun _ =>
  (fJ2_size D h a1).bind fun x2 =>
  (some ((x2 - (1 : Int32)))).bind fun x4 =>
  fX1_findMatches_p71 D FU h a0 a1 a2 a4 x4
theorem vX1_findMatches_p63 {h : aH} {a0 : Option Nat} {a1 : Option Nat} {a2 : Option Nat} {a4 : Int32} {g : aH} (X : aX p l R s m meth c D n0 s0 yX1_findMatches cX1_findMatches 3 64 8 (none) h0) (hf : fX1_findMatches_p63 D h a0 a1 a2 a4 = some g) : V p l e R s m args below meth c D n0 s0 (aEnd D below args s h0 (.inr none, g)) h 63 [(0, false, va_rf a0), (1, false, va_rf a1), (2, false, va_rf a2), (4, false, .int a4)] [] := by
  have C := X.1
  unfold fX1_findMatches_p63 at hf
  refine v_aload_n (pc := 63) (j := 1) C dX1_findMatches_63 rfl rfl ?_
  obtain ⟨b1, eb1, hf⟩ := oB hf
  obtain ⟨rb1, _, kb1⟩ := aIs_eq eb1
  obtain ⟨x2, ex2, hf⟩ := oB hf
  refine v_call (pc := 64) (d_V (pc := 64) C (As := []) (rest := []) rb1 kb1 nt_15 q375 yi_J2_size_java_util_ArrayList yk_J2_size rfl (by decide) (by decide) (Nat.le_trans aw_0 (by decide)) rfl (mJ2_size C.st ex2) dX1_findMatches_64) ?_
  refine v_iconst (pc := 67) (v := (1 : Int32)) C dX1_findMatches_67 rfl ?_
  refine v_isub (pc := 68) C dX1_findMatches_68 ?_
  obtain ⟨x4, ex4, hf⟩ := oB hf
  refine vst (Option.some.inj ex4) (fun z => .int z :: []) ?_
  refine v_istore (pc := 69) (lv' := [(5, false, .int x4), (0, false, va_rf a0), (1, false, va_rf a1), (2, false, va_rf a2), (4, false, .int a4)]) C dX1_findMatches_69 (by decide) rfl ?_
  exact V.sub [1, 2, 3, 4, 0] rfl (vX1_findMatches_p71 X _ _ _ _ _ _ _ _ hf)
def fX1_findMatches_p23 (D : aD) : Nat → aH → (Option Nat) → (Option Nat) → (Option Nat) → Int32 → Int32 → Int32 → Option (aH)
  | 0, _, _, _, _, _, _, _ => none
  | n + 1, h, a0, a1, a2, a3, a4, a5 =>
  if a4 ≤ a5 then
  (fX1_findMatches_p63 D h a0 a1 a2 a4)
  else
  ((gR h 0 16 a0).bind fun x1 =>
  (aIs h 15 a1).bind fun _ =>
  (fJ2_size D h a1).bind fun x3 =>
  (eR h x1 x3).bind fun x5 =>
  (fJ19_bitCount D h a5).bind fun x7 =>
  fX1_findMatches_p56 D (fX1_findMatches_p23 D n) h a0 a1 a2 a3 a4 a5 x5 a5 (if x7 = a3 then (0 : Int32) else (1000000 : Int32)))
theorem vX1_findMatches_p23 (X : aX p l R s m meth c D n0 s0 yX1_findMatches cX1_findMatches 3 64 8 (none) h0) : ∀ (n : Nat) (h : aH) (a0 : Option Nat) (a1 : Option Nat) (a2 : Option Nat) (a3 : Int32) (a4 : Int32) (a5 : Int32) (g : aH), fX1_findMatches_p23 D n h a0 a1 a2 a3 a4 a5 = some g → V p l e R s m args below meth c D n0 s0 (aEnd D below args s h0 (.inr none, g)) h 23 [(0, false, va_rf a0), (1, false, va_rf a1), (2, false, va_rf a2), (3, false, .int a3), (4, false, .int a4), (5, false, .int a5)] [] := by
  have C := X.1
  intro n
  induction n with
  | zero =>
    intro _ _ _ _ _ _ _ _ hf
    rw [fX1_findMatches_p23] at hf
    cases hf
  | succ n ih =>
    intro h a0 a1 a2 a3 a4 a5 g hf
    rw [fX1_findMatches_p23] at hf
    refine v_iload (pc := 23) (j := 5) C dX1_findMatches_23 rfl ?_
    refine v_iload (pc := 25) (j := 4) C dX1_findMatches_25 rfl ?_
    refine v_icmp_ge (pc := 27) (tgt := 63) C dX1_findMatches_27 rfl (fun hc => ?_) (fun hc => ?_)
    · rw [if_pos hc] at hf
      exact V.sub [0, 1, 2, 4] rfl (vX1_findMatches_p63 X hf)
    · rw [if_neg hc] at hf
      refine v_aload_n (pc := 30) (j := 0) C dX1_findMatches_30 rfl rfl ?_
      obtain ⟨x1, ex1, hf⟩ := oB hf
      refine v_getF (pc := 31) C lk_X1_90 (gR_eq ex1) dX1_findMatches_31 ?_
      refine v_aload_n (pc := 34) (j := 1) C dX1_findMatches_34 rfl rfl ?_
      obtain ⟨b2, eb2, hf⟩ := oB hf
      obtain ⟨rb2, _, kb2⟩ := aIs_eq eb2
      obtain ⟨x3, ex3, hf⟩ := oB hf
      refine v_call (pc := 35) (d_V (pc := 35) C (As := []) (rest := [va_rf x1]) rb2 kb2 nt_15 q375 yi_J2_size_java_util_ArrayList yk_J2_size rfl (by decide) (by decide) (Nat.le_trans (aw_r aw_0) (by decide)) rfl (mJ2_size C.st ex3) dX1_findMatches_35) ?_
      obtain ⟨x5, ex5, hf⟩ := oB hf
      refine v_aaload (pc := 38) C ex5 dX1_findMatches_38 ?_
      refine v_iload (pc := 39) (j := 5) C dX1_findMatches_39 rfl ?_
      refine v_iload (pc := 41) (j := 5) C dX1_findMatches_41 rfl ?_
      obtain ⟨x7, ex7, hf⟩ := oB hf
      refine v_call (pc := 43) (d_S (pc := 43) C (As := [.int a5]) (rest := [.int a5, va_rf x5]) q402 q403 yk_J19_bitCount rfl (by decide) (by decide) (Nat.le_trans (aw_i (aw_r aw_0)) (by decide)) rfl (mJ19_bitCount C.st ex7) dX1_findMatches_43) ?_
      refine v_iload_n (pc := 46) (j := 3) C dX1_findMatches_46 rfl rfl ?_
      refine v_icmp_ne (pc := 47) (tgt := 54) C dX1_findMatches_47 rfl (fun hc => ?_) (fun hc => ?_)
      · simp only [if_neg hc] at hf
        refine v_ldc (pc := 54) (v := (1000000 : Int32)) C q1250 dX1_findMatches_54 ?_
        exact V.sub [0, 1, 2, 3, 4, 5] rfl (vX1_findMatches_p56 X ih hf)
      · simp only [if_pos (Decidable.of_not_not hc)] at hf
        refine v_iconst (pc := 50) (v := (0 : Int32)) C dX1_findMatches_50 rfl ?_
        refine v_goto (pc := 51) (tgt := 56) C dX1_findMatches_51 rfl ?_
        exact V.sub [0, 1, 2, 3, 4, 5] rfl (vX1_findMatches_p56 X ih hf)
def fX1_findMatches (D : aD) (h : aH) (a0 : Option Nat) (a1 : Option Nat) (a2 : Option Nat) : Option (aH) :=
  (aIs h 15 a1).bind fun _ =>
  (fJ2_size D h a1).bind fun x2 =>
  (aIs h 15 a2).bind fun _ =>
  (fJ2_size D h a2).bind fun x5 =>
  (fJ11_min D h x2 x5).bind fun x8 =>
  (aIs h 15 a2).bind fun _ =>
  (fJ2_size D h a2).bind fun x11 =>
  (some (((1 : Int32) <<< (x11 &&& 31)))).bind fun x13 =>
  fX1_findMatches_p23 D FU h a0 a1 a2 x8 x13 (0 : Int32)
theorem vX1_findMatches {h : aH} {a0 : Option Nat} {a1 : Option Nat} {a2 : Option Nat} {g : aH} (X : aX p l R s m meth c D n0 s0 yX1_findMatches cX1_findMatches 3 64 8 (none) h0) (hf : fX1_findMatches D h a0 a1 a2 = some g) : V p l e R s m args below meth c D n0 s0 (aEnd D below args s h0 (.inr none, g)) h 0 [(0, false, va_rf a0), (1, false, va_rf a1), (2, false, va_rf a2)] [] := by
  have C := X.1
  unfold fX1_findMatches at hf
  refine v_aload_n (pc := 0) (j := 1) C dX1_findMatches_0 rfl rfl ?_
  obtain ⟨b1, eb1, hf⟩ := oB hf
  obtain ⟨rb1, _, kb1⟩ := aIs_eq eb1
  obtain ⟨x2, ex2, hf⟩ := oB hf
  refine v_call (pc := 1) (d_V (pc := 1) C (As := []) (rest := []) rb1 kb1 nt_15 q375 yi_J2_size_java_util_ArrayList yk_J2_size rfl (by decide) (by decide) (Nat.le_trans aw_0 (by decide)) rfl (mJ2_size C.st ex2) dX1_findMatches_1) ?_
  refine v_aload_n (pc := 4) (j := 2) C dX1_findMatches_4 rfl rfl ?_
  obtain ⟨b4, eb4, hf⟩ := oB hf
  obtain ⟨rb4, _, kb4⟩ := aIs_eq eb4
  obtain ⟨x5, ex5, hf⟩ := oB hf
  refine v_call (pc := 5) (d_V (pc := 5) C (As := []) (rest := [.int x2]) rb4 kb4 nt_15 q375 yi_J2_size_java_util_ArrayList yk_J2_size rfl (by decide) (by decide) (Nat.le_trans (aw_i aw_0) (by decide)) rfl (mJ2_size C.st ex5) dX1_findMatches_5) ?_
  obtain ⟨x8, ex8, hf⟩ := oB hf
  refine v_call (pc := 8) (d_S (pc := 8) C (As := [.int x2, .int x5]) (rest := []) q1256 q477 yk_J11_min rfl (by decide) (by decide) (Nat.le_trans aw_0 (by decide)) rfl (mJ11_min C.st ex8) dX1_findMatches_8) ?_
  refine v_istore_n (pc := 11) (lv' := [(3, false, .int x8), (0, false, va_rf a0), (1, false, va_rf a1), (2, false, va_rf a2)]) C dX1_findMatches_11 rfl (by decide) rfl ?_
  refine v_iconst (pc := 12) (v := (1 : Int32)) C dX1_findMatches_12 rfl ?_
  refine v_aload_n (pc := 13) (j := 3) C dX1_findMatches_13 rfl rfl ?_
  obtain ⟨b10, eb10, hf⟩ := oB hf
  obtain ⟨rb10, _, kb10⟩ := aIs_eq eb10
  obtain ⟨x11, ex11, hf⟩ := oB hf
  refine v_call (pc := 14) (d_V (pc := 14) C (As := []) (rest := [.int (1 : Int32)]) rb10 kb10 nt_15 q375 yi_J2_size_java_util_ArrayList yk_J2_size rfl (by decide) (by decide) (Nat.le_trans (aw_i aw_0) (by decide)) rfl (mJ2_size C.st ex11) dX1_findMatches_14) ?_
  refine v_ishl (pc := 17) C dX1_findMatches_17 ?_
  obtain ⟨x13, ex13, hf⟩ := oB hf
  refine vst (Option.some.inj ex13) (fun z => .int z :: []) ?_
  refine v_istore (pc := 18) (lv' := [(4, false, .int x13), (3, false, .int x8), (0, false, va_rf a0), (1, false, va_rf a1), (2, false, va_rf a2)]) C dX1_findMatches_18 (by decide) rfl ?_
  refine v_iconst (pc := 20) (v := (0 : Int32)) C dX1_findMatches_20 rfl ?_
  refine v_istore (pc := 21) (lv' := [(5, false, .int (0 : Int32)), (4, false, .int x13), (3, false, .int x8), (0, false, va_rf a0), (1, false, va_rf a1), (2, false, va_rf a2)]) C dX1_findMatches_21 (by decide) rfl ?_
  exact V.sub [3, 4, 5, 2, 1, 0] rfl (vX1_findMatches_p23 X _ _ _ _ _ _ _ _ _ hf)
theorem mX1_findMatches {l : Launch} {D : aD} {h : aH} {a0 : Option Nat} {a1 : Option Nat} {a2 : Option Nat} {g : aH} (hst : l.stackTraces = false) (hf : fX1_findMatches D h a0 a1 a2 = some g) : aM l D yX1_findMatches cX1_findMatches 8 (none) 3 64 [va_rf a0, va_rf a1, va_rf a2] h (.inr none, g) :=
  aM.ofX [(false, va_rf a0), (false, va_rf a1), (false, va_rf a2)] rfl (ap_r (ap_r (ap_r ap_0))) (by decide +kernel) hst (al_of (aw_r (aw_r (aw_r aw_0))) (by decide)) fun p e s m args below meth c X => V.sub (lv' := [(0, false, va_rf a0), (1, false, va_rf a1), (2, false, va_rf a2)]) [0, 1, 2] rfl (vX1_findMatches X hf)
def fJ37_init (D : aD) (h : aH) (a0 : Option Nat) : Option (Unit) :=
  (a0).bind fun _ =>
  some ()
theorem vJ37_init {h : aH} {a0 : Option Nat} {q : Unit} (X : aX p l R s m meth c D n0 s0 yJ37_init cJ37_init 1 12 1 (none) h0) (hf : fJ37_init D h a0 = some q) : V p l e R s m args below meth c D n0 s0 (aEnd D below args s h0 (.inr none, h)) h 0 [(0, false, va_rf a0)] [] := by
  have C := X.1
  unfold fJ37_init at hf
  refine v_aload_n (pc := 0) (j := 0) C dJ37_init_0 rfl rfl ?_
  obtain ⟨_, e1, hf⟩ := oB hf
  refine v_objInit (pc := 1) C e1 q2262 q138 q139 (by decide) (Nat.le_trans (Nat.add_le_add_right aw_0 12) (by decide)) dJ37_init_1 ?_
  cases hf
  exact v_return (pc := 4) C X.2.1 X.2.2.1 X.2.2.2.1 rfl dJ37_init_4
theorem mJ37_init {l : Launch} {D : aD} {h : aH} {a0 : Option Nat} {q : Unit} (hst : l.stackTraces = false) (hf : fJ37_init D h a0 = some q) : aM l D yJ37_init cJ37_init 1 (none) 1 12 [va_rf a0] h (.inr none, h) :=
  aM.ofX [(false, va_rf a0)] rfl (ap_r ap_0) (by decide +kernel) hst (al_of (aw_r aw_0) (by decide)) fun p e s m args below meth c X => V.sub (lv' := [(0, false, va_rf a0)]) [0] rfl (vJ37_init X hf)
def fX13_init (D : aD) (h : aH) (a0 : Option Nat) (a1 : Int32) (a2 : Int32) (a3 : Int32) : Option (aH) :=
  (a0).bind fun _ =>
  (fJ37_init D h a0).bind fun _ =>
  (pF D h 12 0 a0 (.int a1)).bind fun h4 =>
  (pF D h4 12 1 a0 (.int a2)).bind fun h5 =>
  (pF D h5 12 2 a0 (.int a3)).bind fun h6 =>
  some h6
theorem vX13_init {h : aH} {a0 : Option Nat} {a1 : Int32} {a2 : Int32} {a3 : Int32} {g : aH} (X : aX p l R s m meth c D n0 s0 yX13_init cX13_init 2 32 4 (none) h0) (hf : fX13_init D h a0 a1 a2 a3 = some g) : V p l e R s m args below meth c D n0 s0 (aEnd D below args s h0 (.inr none, g)) h 0 [(0, false, va_rf a0), (1, false, .int a1), (2, false, .int a2), (3, false, .int a3)] [] := by
  have C := X.1
  unfold fX13_init at hf
  refine v_aload_n (pc := 0) (j := 0) C dX13_init_0 rfl rfl ?_
  obtain ⟨_, eb1, hf⟩ := oB hf
  obtain ⟨x2, ex2, hf⟩ := oB hf
  refine v_callU (pc := 1) (d_I (pc := 1) C (As := []) (rest := []) eb1 rfl rfl q2259 q2260 yk_J37_init rfl (by decide) (by decide) (Nat.le_trans aw_0 (by decide)) rfl (mJ37_init C.st ex2) dX13_init_1) ?_
  refine v_aload_n (pc := 4) (j := 0) C dX13_init_4 rfl rfl ?_
  refine v_iload_n (pc := 5) (j := 1) C dX13_init_5 rfl rfl ?_
  obtain ⟨h4, eh4, hf⟩ := oB hf
  refine v_putC (pc := 6) C X.2.2.2.2.2.1 lk_X13_7 rfl q2263 tyX13 tyX13_ok nmX13 (tyX13_ok 0 (by decide)) rfl rfl eh4 dX13_init_6 ?_
  refine v_aload_n (pc := 9) (j := 0) C dX13_init_9 rfl rfl ?_
  refine v_iload_n (pc := 10) (j := 2) C dX13_init_10 rfl rfl ?_
  obtain ⟨h5, eh5, hf⟩ := oB hf
  refine v_putC (pc := 11) C X.2.2.2.2.2.1 lk_X13_13 rfl q2264 tyX13 tyX13_ok nmX13 (tyX13_ok 1 (by decide)) rfl rfl eh5 dX13_init_11 ?_
  refine v_aload_n (pc := 14) (j := 0) C dX13_init_14 rfl rfl ?_
  refine v_iload_n (pc := 15) (j := 3) C dX13_init_15 rfl rfl ?_
  obtain ⟨h6, eh6, hf⟩ := oB hf
  refine v_putC (pc := 16) C X.2.2.2.2.2.1 lk_X13_16 rfl q2265 tyX13 tyX13_ok nmX13 (tyX13_ok 2 (by decide)) rfl rfl eh6 dX13_init_16 ?_
  cases hf
  exact v_return (pc := 19) C X.2.1 X.2.2.1 X.2.2.2.1 rfl dX13_init_19
theorem mX13_init {l : Launch} {D : aD} {h : aH} {a0 : Option Nat} {a1 : Int32} {a2 : Int32} {a3 : Int32} {g : aH} (hst : l.stackTraces = false) (hf : fX13_init D h a0 a1 a2 a3 = some g) : aM l D yX13_init cX13_init 4 (none) 2 32 [va_rf a0, .int a1, .int a2, .int a3] h (.inr none, g) :=
  aM.ofX [(false, va_rf a0), (false, .int a1), (false, .int a2), (false, .int a3)] rfl (ap_r (ap_c rfl (ap_c rfl (ap_c rfl ap_0)))) (by decide +kernel) hst (al_of (aw_r (aw_i (aw_i (aw_i aw_0)))) (by decide)) fun p e s m args below meth c X => V.sub (lv' := [(0, false, va_rf a0), (1, false, .int a1), (2, false, .int a2), (3, false, .int a3)]) [0, 1, 2, 3] rfl (vX13_init X hf)
def fX1_tellName_p47 (D : aD) (h : aH) (a0 : Option Nat) (a2 : Int32) (a3 : Int32) (a4 : Int32) (a5 : Option Nat) (t0 : Int32) : Option ((Nat ⊕ Int32) × aH) :=
  bndT (fX1_must D h t0) fun _ h3 =>
  (gI h3 0 12 a0).bind fun x4 =>
  (pF D h3 0 12 a0 (.int (x4 + (1 : Int32)))).bind fun h5 =>
  (gR h5 4 4 a5).bind fun x6 =>
  (aMk D h5 (12, dfX13)).bind fun h7 =>
  (fX13_init D h7 (some h5.1) a2 a3 a4).bind fun h10 =>
  (aIs h10 15 x6).bind fun _ =>
  bnd2 (fJ2_add D h10 x6 (some h5.1)) fun x12 h13 =>
  (gR h13 4 4 a5).bind fun x14 =>
  (aIs h13 15 x14).bind fun _ =>
  (fJ2_size D h13 x14).bind fun x16 =>
  some (.inr x16, h13)
theorem vX1_tellName_p47 {h : aH} {a0 : Option Nat} {a2 : Int32} {a3 : Int32} {a4 : Int32} {a5 : Option Nat} {t0 : Int32} {q : Nat ⊕ Int32} {g : aH} (X : aX p l R s m meth c D n0 s0 yX1_tellName cX1_tellName 8 152 6 (some .int) h0) (hf : fX1_tellName_p47 D h a0 a2 a3 a4 a5 t0 = some (q, g)) : V p l e R s m args below meth c D n0 s0 (aEnd D below args s h0 (wI q, g)) h 47 [(0, false, va_rf a0), (2, false, .int a2), (3, false, .int a3), (4, false, .int a4), (5, false, va_rf a5)] [.int t0] := by
  have C := X.1
  unfold fX1_tellName_p47 at hf
  rcases bndT_eq hf with ⟨_, _, ex2, qx2⟩ | ⟨x2, h3, ex2, hf⟩
  · cases qx2; exact v_ofDx (pc := 47) C X.2.1 X.2.2.1 rfl X.2.2.2.2.1 (d_S (pc := 47) C (As := [.int t0]) (rest := []) q1595 q1596 yk_X1_must rfl (by decide) (by decide) (Nat.le_trans aw_0 (by decide)) rfl (mX1_must C.st ex2) dX1_tellName_47)
  refine v_callU (pc := 47) (d_S (pc := 47) C (As := [.int t0]) (rest := []) q1595 q1596 yk_X1_must rfl (by decide) (by decide) (Nat.le_trans aw_0 (by decide)) rfl (mX1_must C.st ex2) dX1_tellName_47) ?_
  refine v_aload_n (pc := 50) (j := 0) C dX1_tellName_50 rfl rfl ?_
  refine v_dup (pc := 51) C dX1_tellName_51 (va_rfc _) ?_
  obtain ⟨x4, ex4, hf⟩ := oB hf
  refine v_getF (pc := 52) C lk_X1_410 (gI_eq ex4) dX1_tellName_52 ?_
  refine v_iconst (pc := 55) (v := (1 : Int32)) C dX1_tellName_55 rfl ?_
  refine v_iadd (pc := 56) C dX1_tellName_56 ?_
  obtain ⟨h5, eh5, hf⟩ := oB hf
  refine v_putF (pc := 57) C lk_X1_410 tyX1 tyX1_ok nmX1 (tyX1_ok 12 (by decide)) rfl rfl eh5 dX1_tellName_57 ?_
  refine v_aload (pc := 60) (j := 4) C dX1_tellName_60 rfl ?_
  obtain ⟨x6, ex6, hf⟩ := oB hf
  refine v_getF (pc := 62) C lk_X1_413 (gR_eq ex6) dX1_tellName_62 ?_
  obtain ⟨h7, eh7, hf⟩ := oB hf
  refine v_new (pc := 65) (t := 12) (fs := dfX13) (T := TX13) (N := 3) C rfl in_X13 tyX13 tyX13_ok q2254 q2255 q127 dfX13_ok rfl eh7 dX1_tellName_65 ?_
  refine v_dup (pc := 68) C dX1_tellName_68 (va_rfc _) ?_
  refine v_iload_n (pc := 69) (j := 1) C dX1_tellName_69 rfl rfl ?_
  refine v_iload_n (pc := 70) (j := 2) C dX1_tellName_70 rfl rfl ?_
  refine v_iload (pc := 71) (j := 3) C dX1_tellName_71 rfl ?_
  obtain ⟨h10, ex9, hf⟩ := oB hf
  refine v_callU (pc := 73) (d_IN (pc := 73) C (As := [.int a2, .int a3, .int a4]) (rest := [va_rf (some h5.1), va_rf x6]) rfl rfl rfl q2256 q2257 yk_X13_init rfl (by decide) (by decide) (Nat.le_trans (aw_r (aw_r aw_0)) (by decide)) rfl (mX13_init C.st ex9) dX1_tellName_73) ?_
  obtain ⟨b11, eb11, hf⟩ := oB hf
  obtain ⟨rb11, _, kb11⟩ := aIs_eq eb11
  obtain ⟨x12, h13, ex12, hf⟩ := bnd2_eq hf
  refine v_call (pc := 76) (d_V (pc := 76) C (As := [va_rf (some h5.1)]) (rest := []) rb11 kb11 nt_15 q1673 yi_J2_add_java_util_ArrayList yk_J2_add rfl (by decide) (by decide) (Nat.le_trans aw_0 (by decide)) rfl (mJ2_add C.st ex12) dX1_tellName_76) ?_
  refine v_pop (pc := 79) C dX1_tellName_79 rfl ?_
  refine v_aload (pc := 80) (j := 4) C dX1_tellName_80 rfl ?_
  obtain ⟨x14, ex14, hf⟩ := oB hf
  refine v_getF (pc := 82) C lk_X1_413 (gR_eq ex14) dX1_tellName_82 ?_
  obtain ⟨b15, eb15, hf⟩ := oB hf
  obtain ⟨rb15, _, kb15⟩ := aIs_eq eb15
  obtain ⟨x16, ex16, hf⟩ := oB hf
  refine v_call (pc := 85) (d_V (pc := 85) C (As := []) (rest := []) rb15 kb15 nt_15 q375 yi_J2_size_java_util_ArrayList yk_J2_size rfl (by decide) (by decide) (Nat.le_trans aw_0 (by decide)) rfl (mJ2_size C.st ex16) dX1_tellName_85) ?_
  cases hf
  exact v_ireturn (pc := 88) C X.2.1 X.2.2.1 X.2.2.2.1 rfl dX1_tellName_88
def fX1_tellName (D : aD) (h : aH) (a0 : Option Nat) (a1 : Int32) (a2 : Int32) (a3 : Int32) (a4 : Int32) : Option ((Nat ⊕ Int32) × aH) :=
  (aIs h 0 a0).bind fun _ =>
  bndT (fX1_figure D h a0 a1) fun x2 h3 =>
  bndT (fX1_in D h3 a2 (1 : Int32) (9999 : Int32)) fun x5 h6 =>
  bndT (fX1_in D h6 a3 (1 : Int32) (15 : Int32)) fun x8 h9 =>
  bndT (fX1_in D h9 a4 (1 : Int32) (15 : Int32)) fun x11 h12 =>
  (gI h12 0 12 a0).bind fun x13 =>
  fX1_tellName_p47 D h12 a0 a2 a3 a4 x2 (if (40 : Int32) ≤ x13 then (0 : Int32) else (1 : Int32))
theorem vX1_tellName {h : aH} {a0 : Option Nat} {a1 : Int32} {a2 : Int32} {a3 : Int32} {a4 : Int32} {q : Nat ⊕ Int32} {g : aH} (X : aX p l R s m meth c D n0 s0 yX1_tellName cX1_tellName 8 152 6 (some .int) h0) (hf : fX1_tellName D h a0 a1 a2 a3 a4 = some (q, g)) : V p l e R s m args below meth c D n0 s0 (aEnd D below args s h0 (wI q, g)) h 0 [(0, false, va_rf a0), (1, false, .int a1), (2, false, .int a2), (3, false, .int a3), (4, false, .int a4)] [] := by
  have C := X.1
  unfold fX1_tellName at hf
  refine v_aload_n (pc := 0) (j := 0) C dX1_tellName_0 rfl rfl ?_
  refine v_iload_n (pc := 1) (j := 1) C dX1_tellName_1 rfl rfl ?_
  obtain ⟨b1, eb1, hf⟩ := oB hf
  obtain ⟨rb1, _, kb1⟩ := aIs_eq eb1
  rcases bndT_eq hf with ⟨_, _, ex2, qx2⟩ | ⟨x2, h3, ex2, hf⟩
  · cases qx2; exact v_ofDx (pc := 2) C X.2.1 X.2.2.1 rfl X.2.2.2.2.1 (d_V (pc := 2) C (As := [.int a1]) (rest := []) rb1 kb1 nt_0 q1849 yi_X1_figure_FigureSurvey yk_X1_figure rfl (by decide) (by decide) (Nat.le_trans aw_0 (by decide)) rfl (mX1_figure C.st ex2) dX1_tellName_2)
  refine v_call (pc := 2) (d_V (pc := 2) C (As := [.int a1]) (rest := []) rb1 kb1 nt_0 q1849 yi_X1_figure_FigureSurvey yk_X1_figure rfl (by decide) (by decide) (Nat.le_trans aw_0 (by decide)) rfl (mX1_figure C.st ex2) dX1_tellName_2) ?_
  refine v_astore (pc := 5) (lv' := [(5, false, va_rf x2), (0, false, va_rf a0), (1, false, .int a1), (2, false, .int a2), (3, false, .int a3), (4, false, .int a4)]) C dX1_tellName_5 (by decide) rfl ?_
  refine v_iload_n (pc := 7) (j := 3) C dX1_tellName_7 rfl rfl ?_
  refine v_iconst (pc := 8) (v := (1 : Int32)) C dX1_tellName_8 rfl ?_
  refine v_sipush (pc := 9) (v := (9999 : Int32)) C dX1_tellName_9 rfl ?_
  rcases bndT_eq hf with ⟨_, _, ex5, qx5⟩ | ⟨x5, h6, ex5, hf⟩
  · cases qx5; exact v_ofDx (pc := 12) C X.2.1 X.2.2.1 rfl X.2.2.2.2.1 (d_S (pc := 12) C (As := [.int a2, .int (1 : Int32), .int (9999 : Int32)]) (rest := []) q1578 q1579 yk_X1_in rfl (by decide) (by decide) (Nat.le_trans aw_0 (by decide)) rfl (mX1_in C.st ex5) dX1_tellName_12)
  refine v_call (pc := 12) (d_S (pc := 12) C (As := [.int a2, .int (1 : Int32), .int (9999 : Int32)]) (rest := []) q1578 q1579 yk_X1_in rfl (by decide) (by decide) (Nat.le_trans aw_0 (by decide)) rfl (mX1_in C.st ex5) dX1_tellName_12) ?_
  refine v_pop (pc := 15) C dX1_tellName_15 rfl ?_
  refine v_iload_n (pc := 16) (j := 4) C dX1_tellName_16 rfl rfl ?_
  refine v_iconst (pc := 17) (v := (1 : Int32)) C dX1_tellName_17 rfl ?_
  refine v_bipush (pc := 18) (v := (15 : Int32)) C dX1_tellName_18 rfl ?_
  rcases bndT_eq hf with ⟨_, _, ex8, qx8⟩ | ⟨x8, h9, ex8, hf⟩
  · cases qx8; exact v_ofDx (pc := 20) C X.2.1 X.2.2.1 rfl X.2.2.2.2.1 (d_S (pc := 20) C (As := [.int a3, .int (1 : Int32), .int (15 : Int32)]) (rest := []) q1578 q1579 yk_X1_in rfl (by decide) (by decide) (Nat.le_trans aw_0 (by decide)) rfl (mX1_in C.st ex8) dX1_tellName_20)
  refine v_call (pc := 20) (d_S (pc := 20) C (As := [.int a3, .int (1 : Int32), .int (15 : Int32)]) (rest := []) q1578 q1579 yk_X1_in rfl (by decide) (by decide) (Nat.le_trans aw_0 (by decide)) rfl (mX1_in C.st ex8) dX1_tellName_20) ?_
  refine v_pop (pc := 23) C dX1_tellName_23 rfl ?_
  refine v_iload (pc := 24) (j := 5) C dX1_tellName_24 rfl ?_
  refine v_iconst (pc := 26) (v := (1 : Int32)) C dX1_tellName_26 rfl ?_
  refine v_bipush (pc := 27) (v := (15 : Int32)) C dX1_tellName_27 rfl ?_
  rcases bndT_eq hf with ⟨_, _, ex11, qx11⟩ | ⟨x11, h12, ex11, hf⟩
  · cases qx11; exact v_ofDx (pc := 29) C X.2.1 X.2.2.1 rfl X.2.2.2.2.1 (d_S (pc := 29) C (As := [.int a4, .int (1 : Int32), .int (15 : Int32)]) (rest := []) q1578 q1579 yk_X1_in rfl (by decide) (by decide) (Nat.le_trans aw_0 (by decide)) rfl (mX1_in C.st ex11) dX1_tellName_29)
  refine v_call (pc := 29) (d_S (pc := 29) C (As := [.int a4, .int (1 : Int32), .int (15 : Int32)]) (rest := []) q1578 q1579 yk_X1_in rfl (by decide) (by decide) (Nat.le_trans aw_0 (by decide)) rfl (mX1_in C.st ex11) dX1_tellName_29) ?_
  refine v_pop (pc := 32) C dX1_tellName_32 rfl ?_
  refine v_aload_n (pc := 33) (j := 1) C dX1_tellName_33 rfl rfl ?_
  obtain ⟨x13, ex13, hf⟩ := oB hf
  refine v_getF (pc := 34) C lk_X1_410 (gI_eq ex13) dX1_tellName_34 ?_
  refine v_bipush (pc := 37) (v := (40 : Int32)) C dX1_tellName_37 rfl ?_
  refine v_icmp_ge (pc := 39) (tgt := 46) C dX1_tellName_39 rfl (fun hc => ?_) (fun hc => ?_)
  · simp only [if_pos hc] at hf
    refine v_iconst (pc := 46) (v := (0 : Int32)) C dX1_tellName_46 rfl ?_
    exact V.sub [1, 3, 4, 5, 0] rfl (vX1_tellName_p47 X hf)
  · simp only [if_neg hc] at hf
    refine v_iconst (pc := 42) (v := (1 : Int32)) C dX1_tellName_42 rfl ?_
    refine v_goto (pc := 43) (tgt := 47) C dX1_tellName_43 rfl ?_
    exact V.sub [1, 3, 4, 5, 0] rfl (vX1_tellName_p47 X hf)
theorem mX1_tellName {l : Launch} {D : aD} {h : aH} {a0 : Option Nat} {a1 : Int32} {a2 : Int32} {a3 : Int32} {a4 : Int32} {q : Nat ⊕ Int32} {g : aH} (hst : l.stackTraces = false) (hf : fX1_tellName D h a0 a1 a2 a3 a4 = some (q, g)) : aM l D yX1_tellName cX1_tellName 6 (some .int) 8 152 [va_rf a0, .int a1, .int a2, .int a3, .int a4] h (wI q, g) :=
  aM.ofX [(false, va_rf a0), (false, .int a1), (false, .int a2), (false, .int a3), (false, .int a4)] rfl (ap_r (ap_c rfl (ap_c rfl (ap_c rfl (ap_c rfl ap_0))))) (by decide +kernel) hst (al_of (aw_r (aw_i (aw_i (aw_i (aw_i aw_0))))) (by decide)) fun p e s m args below meth c X => V.sub (lv' := [(0, false, va_rf a0), (1, false, .int a1), (2, false, .int a2), (3, false, .int a3), (4, false, .int a4)]) [0, 1, 2, 3, 4] rfl (vX1_tellName X hf)
def fX13_kins (D : aD) (h : aH) (a0 : Option Nat) : Option (Int32) :=
  (gI h 12 1 a0).bind fun x1 =>
  some x1
theorem vX13_kins {h : aH} {a0 : Option Nat} {q : Int32} (X : aX p l R s m meth c D n0 s0 yX13_kins cX13_kins 0 0 1 (some .int) h0) (hf : fX13_kins D h a0 = some q) : V p l e R s m args below meth c D n0 s0 (aEnd D below args s h0 (.inr (some (.int q)), h)) h 0 [(0, false, va_rf a0)] [] := by
  have C := X.1
  unfold fX13_kins at hf
  refine v_aload_n (pc := 0) (j := 0) C dX13_kins_0 rfl rfl ?_
  obtain ⟨x1, ex1, hf⟩ := oB hf
  refine v_getF (pc := 1) C lk_X13_13 (gI_eq ex1) dX13_kins_1 ?_
  cases hf
  exact v_ireturn (pc := 4) C X.2.1 X.2.2.1 X.2.2.2.1 rfl dX13_kins_4
theorem mX13_kins {l : Launch} {D : aD} {h : aH} {a0 : Option Nat} {q : Int32} (hst : l.stackTraces = false) (hf : fX13_kins D h a0 = some q) : aM l D yX13_kins cX13_kins 1 (some .int) 0 0 [va_rf a0] h (.inr (some (.int q)), h) :=
  aM.ofX [(false, va_rf a0)] rfl (ap_r ap_0) (by decide +kernel) hst (al_of (aw_r aw_0) (by decide)) fun p e s m args below meth c X => V.sub (lv' := [(0, false, va_rf a0)]) [0] rfl (vX13_kins X hf)
def fX13_seasons (D : aD) (h : aH) (a0 : Option Nat) : Option (Int32) :=
  (gI h 12 2 a0).bind fun x1 =>
  some x1
theorem vX13_seasons {h : aH} {a0 : Option Nat} {q : Int32} (X : aX p l R s m meth c D n0 s0 yX13_seasons cX13_seasons 0 0 1 (some .int) h0) (hf : fX13_seasons D h a0 = some q) : V p l e R s m args below meth c D n0 s0 (aEnd D below args s h0 (.inr (some (.int q)), h)) h 0 [(0, false, va_rf a0)] [] := by
  have C := X.1
  unfold fX13_seasons at hf
  refine v_aload_n (pc := 0) (j := 0) C dX13_seasons_0 rfl rfl ?_
  obtain ⟨x1, ex1, hf⟩ := oB hf
  refine v_getF (pc := 1) C lk_X13_16 (gI_eq ex1) dX13_seasons_1 ?_
  cases hf
  exact v_ireturn (pc := 4) C X.2.1 X.2.2.1 X.2.2.2.1 rfl dX13_seasons_4
theorem mX13_seasons {l : Launch} {D : aD} {h : aH} {a0 : Option Nat} {q : Int32} (hst : l.stackTraces = false) (hf : fX13_seasons D h a0 = some q) : aM l D yX13_seasons cX13_seasons 1 (some .int) 0 0 [va_rf a0] h (.inr (some (.int q)), h) :=
  aM.ofX [(false, va_rf a0)] rfl (ap_r ap_0) (by decide +kernel) hst (al_of (aw_r aw_0) (by decide)) fun p e s m args below meth c X => V.sub (lv' := [(0, false, va_rf a0)]) [0] rfl (vX13_seasons X hf)
def fX13_name (D : aD) (h : aH) (a0 : Option Nat) : Option (Int32) :=
  (gI h 12 0 a0).bind fun x1 =>
  some x1
theorem vX13_name {h : aH} {a0 : Option Nat} {q : Int32} (X : aX p l R s m meth c D n0 s0 yX13_name cX13_name 0 0 1 (some .int) h0) (hf : fX13_name D h a0 = some q) : V p l e R s m args below meth c D n0 s0 (aEnd D below args s h0 (.inr (some (.int q)), h)) h 0 [(0, false, va_rf a0)] [] := by
  have C := X.1
  unfold fX13_name at hf
  refine v_aload_n (pc := 0) (j := 0) C dX13_name_0 rfl rfl ?_
  obtain ⟨x1, ex1, hf⟩ := oB hf
  refine v_getF (pc := 1) C lk_X13_7 (gI_eq ex1) dX13_name_1 ?_
  cases hf
  exact v_ireturn (pc := 4) C X.2.1 X.2.2.1 X.2.2.2.1 rfl dX13_name_4
theorem mX13_name {l : Launch} {D : aD} {h : aH} {a0 : Option Nat} {q : Int32} (hst : l.stackTraces = false) (hf : fX13_name D h a0 = some q) : aM l D yX13_name cX13_name 1 (some .int) 0 0 [va_rf a0] h (.inr (some (.int q)), h) :=
  aM.ofX [(false, va_rf a0)] rfl (ap_r ap_0) (by decide +kernel) hst (al_of (aw_r aw_0) (by decide)) fun p e s m args below meth c X => V.sub (lv' := [(0, false, va_rf a0)]) [0] rfl (vX13_name X hf)
def fX1_nameFor_p77 (D : aD) (h : aH) (a6 : Option Nat) : Option ((Nat ⊕ Int32) × aH) :=
  (aIs h 12 a6).bind fun _ =>
  (fX13_name D h a6).bind fun x2 =>
  some (.inr x2, h)
theorem vX1_nameFor_p77 {h : aH} {a6 : Option Nat} {q : Nat ⊕ Int32} {g : aH} (X : aX p l R s m meth c D n0 s0 yX1_nameFor cX1_nameFor 8 124 7 (some .int) h0) (hf : fX1_nameFor_p77 D h a6 = some (q, g)) : V p l e R s m args below meth c D n0 s0 (aEnd D below args s h0 (wI q, g)) h 77 [(6, false, va_rf a6)] [] := by
  have C := X.1
  unfold fX1_nameFor_p77 at hf
  refine v_aload (pc := 77) (j := 0) C dX1_nameFor_77 rfl ?_
  obtain ⟨b1, eb1, hf⟩ := oB hf
  obtain ⟨rb1, _, kb1⟩ := aIs_eq eb1
  obtain ⟨x2, ex2, hf⟩ := oB hf
  refine v_call (pc := 79) (d_V (pc := 79) C (As := []) (rest := []) rb1 kb1 nt_12 q2288 yi_X13_name_FigureSurvey_Name yk_X13_name rfl (by decide) (by decide) (Nat.le_trans aw_0 (by decide)) rfl (mX13_name C.st ex2) dX1_nameFor_79) ?_
  cases hf
  exact v_ireturn (pc := 82) C X.2.1 X.2.2.1 X.2.2.2.1 rfl dX1_nameFor_82
def fX1_nameFor_p83 (D : aD) (K33 : aH → Int32 → Int32 → (Option Nat) → Int32 → Option ((Nat ⊕ Int32) × aH)) (h : aH) (a2 : Int32) (a3 : Int32) (a4 : Option Nat) (a5 : Int32) : Option ((Nat ⊕ Int32) × aH) :=
  K33 h a2 a3 a4 (a5 + (-1))
theorem vX1_nameFor_p83 {h : aH} {K33 : aH → Int32 → Int32 → (Option Nat) → Int32 → Option ((Nat ⊕ Int32) × aH)} {a2 : Int32} {a3 : Int32} {a4 : Option Nat} {a5 : Int32} {q : Nat ⊕ Int32} {g : aH} (X : aX p l R s m meth c D n0 s0 yX1_nameFor cX1_nameFor 8 124 7 (some .int) h0) (k33 : ∀ (h : aH) (a2 : Int32) (a3 : Int32) (a4 : Option Nat) (a5 : Int32) (q : Nat ⊕ Int32) (g : aH), K33 h a2 a3 a4 a5 = some (q, g) → V p l e R s m args below meth c D n0 s0 (aEnd D below args s h0 (wI q, g)) h 33 [(2, false, .int a2), (3, false, .int a3), (4, false, va_rf a4), (5, false, .int a5)] []) (hf : fX1_nameFor_p83 D K33 h a2 a3 a4 a5 = some (q, g)) : V p l e R s m args below meth c D n0 s0 (aEnd D below args s h0 (wI q, g)) h 83 [(2, false, .int a2), (3, false, .int a3), (4, false, va_rf a4), (5, false, .int a5)] [] := by
  have C := X.1
  unfold fX1_nameFor_p83 at hf
  refine v_iinc (pc := 83) (j := 3) (v := (a5 + (-1))) (lv' := [(5, false, .int (a5 + (-1))), (2, false, .int a2), (3, false, .int a3), (4, false, va_rf a4)]) C dX1_nameFor_83 rfl rfl (by decide) rfl ?_
  refine v_goto (pc := 86) (tgt := 33) C dX1_nameFor_86 rfl ?_
  exact V.sub [1, 2, 3, 0] rfl (k33 _ _ _ _ _ _ _ hf)
def fX1_nameFor_p33 (D : aD) : Nat → aH → Int32 → Int32 → (Option Nat) → Int32 → Option ((Nat ⊕ Int32) × aH)
  | 0, _, _, _, _, _ => none
  | n + 1, h, a2, a3, a4, a5 =>
  if a5 < 0 then
  (some (.inr (-1 : Int32), h))
  else
  ((gR h 4 4 a4).bind fun x1 =>
  (aIs h 15 x1).bind fun _ =>
  (fJ2_get D h x1 a5).bind fun x3 =>
  (aCast h [12] x3).bind fun _ =>
  (aIs h 12 x3).bind fun _ =>
  (fX13_kins D h x3).bind fun x7 =>
  (fX1_has_2 D h x7 a2).bind fun x10 =>
  if x10 = 0 then
  (fX1_nameFor_p83 D (fX1_nameFor_p33 D n) h a2 a3 a4 a5)
  else
  ((aIs h 12 x3).bind fun _ =>
  (fX13_seasons D h x3).bind fun x13 =>
  (fX1_has_2 D h x13 a3).bind fun x16 =>
  if x16 = 0 then
  (fX1_nameFor_p83 D (fX1_nameFor_p33 D n) h a2 a3 a4 a5)
  else
  (fX1_nameFor_p77 D h x3)))
theorem vX1_nameFor_p33 (X : aX p l R s m meth c D n0 s0 yX1_nameFor cX1_nameFor 8 124 7 (some .int) h0) : ∀ (n : Nat) (h : aH) (a2 : Int32) (a3 : Int32) (a4 : Option Nat) (a5 : Int32) (q : Nat ⊕ Int32) (g : aH), fX1_nameFor_p33 D n h a2 a3 a4 a5 = some (q, g) → V p l e R s m args below meth c D n0 s0 (aEnd D below args s h0 (wI q, g)) h 33 [(2, false, .int a2), (3, false, .int a3), (4, false, va_rf a4), (5, false, .int a5)] [] := by
  have C := X.1
  intro n
  induction n with
  | zero =>
    intro _ _ _ _ _ _ _ hf
    rw [fX1_nameFor_p33] at hf
    cases hf
  | succ n ih =>
    intro h a2 a3 a4 a5 q g hf
    rw [fX1_nameFor_p33] at hf
    refine v_iload (pc := 33) (j := 3) C dX1_nameFor_33 rfl ?_
    refine v_if_lt (pc := 35) (tgt := 89) C dX1_nameFor_35 rfl (fun hc => ?_) (fun hc => ?_)
    · rw [if_pos hc] at hf
      refine v_iconst (pc := 89) (v := (-1 : Int32)) C dX1_nameFor_89 rfl ?_
      cases hf
      exact v_ireturn (pc := 90) C X.2.1 X.2.2.1 X.2.2.2.1 rfl dX1_nameFor_90
    · rw [if_neg hc] at hf
      refine v_aload (pc := 38) (j := 2) C dX1_nameFor_38 rfl ?_
      obtain ⟨x1, ex1, hf⟩ := oB hf
      refine v_getF (pc := 40) C lk_X1_413 (gR_eq ex1) dX1_nameFor_40 ?_
      refine v_iload (pc := 43) (j := 3) C dX1_nameFor_43 rfl ?_
      obtain ⟨b2, eb2, hf⟩ := oB hf
      obtain ⟨rb2, _, kb2⟩ := aIs_eq eb2
      obtain ⟨x3, ex3, hf⟩ := oB hf
      refine v_call (pc := 45) (d_V (pc := 45) C (As := [.int a5]) (rest := []) rb2 kb2 nt_15 q379 yi_J2_get_java_util_ArrayList yk_J2_get rfl (by decide) (by decide) (Nat.le_trans aw_0 (by decide)) rfl (mJ2_get C.st ex3) dX1_nameFor_45) ?_
      obtain ⟨_, e5, hf⟩ := oB hf
      refine v_cast (pc := 48) C q2254 ct_FigureSurvey_Name e5 dX1_nameFor_48 ?_
      refine v_astore (pc := 51) (lv' := [(6, false, va_rf x3), (2, false, .int a2), (3, false, .int a3), (4, false, va_rf a4), (5, false, .int a5)]) C dX1_nameFor_51 (by decide) rfl ?_
      refine v_aload (pc := 53) (j := 0) C dX1_nameFor_53 rfl ?_
      obtain ⟨b6, eb6, hf⟩ := oB hf
      obtain ⟨rb6, _, kb6⟩ := aIs_eq eb6
      obtain ⟨x7, ex7, hf⟩ := oB hf
      refine v_call (pc := 55) (d_V (pc := 55) C (As := []) (rest := []) rb6 kb6 nt_12 q2280 yi_X13_kins_FigureSurvey_Name yk_X13_kins rfl (by decide) (by decide) (Nat.le_trans aw_0 (by decide)) rfl (mX13_kins C.st ex7) dX1_nameFor_55) ?_
      refine v_iload_n (pc := 58) (j := 1) C dX1_nameFor_58 rfl rfl ?_
      obtain ⟨x10, ex10, hf⟩ := oB hf
      refine v_call (pc := 59) (d_S (pc := 59) C (As := [.int x7, .int a2]) (rest := []) q1251 q1244 yk_X1_has_2 rfl (by decide) (by decide) (Nat.le_trans aw_0 (by decide)) rfl (mX1_has_2 C.st ex10) dX1_nameFor_59) ?_
      refine v_if_eq (pc := 62) (tgt := 83) C dX1_nameFor_62 rfl (fun hc => ?_) (fun hc => ?_)
      · rw [if_pos hc] at hf
        exact V.sub [1, 2, 3, 4] rfl (vX1_nameFor_p83 X ih hf)
      · rw [if_neg hc] at hf
        refine v_aload (pc := 65) (j := 0) C dX1_nameFor_65 rfl ?_
        obtain ⟨b12, eb12, hf⟩ := oB hf
        obtain ⟨rb12, _, kb12⟩ := aIs_eq eb12
        obtain ⟨x13, ex13, hf⟩ := oB hf
        refine v_call (pc := 67) (d_V (pc := 67) C (As := []) (rest := []) rb12 kb12 nt_12 q2284 yi_X13_seasons_FigureSurvey_Name yk_X13_seasons rfl (by decide) (by decide) (Nat.le_trans aw_0 (by decide)) rfl (mX13_seasons C.st ex13) dX1_nameFor_67) ?_
        refine v_iload_n (pc := 70) (j := 2) C dX1_nameFor_70 rfl rfl ?_
        obtain ⟨x16, ex16, hf⟩ := oB hf
        refine v_call (pc := 71) (d_S (pc := 71) C (As := [.int x13, .int a3]) (rest := []) q1251 q1244 yk_X1_has_2 rfl (by decide) (by decide) (Nat.le_trans aw_0 (by decide)) rfl (mX1_has_2 C.st ex16) dX1_nameFor_71) ?_
        refine v_if_eq (pc := 74) (tgt := 83) C dX1_nameFor_74 rfl (fun hc => ?_) (fun hc => ?_)
        · rw [if_pos hc] at hf
          exact V.sub [1, 2, 3, 4] rfl (vX1_nameFor_p83 X ih hf)
        · rw [if_neg hc] at hf
          exact V.sub [0] rfl (vX1_nameFor_p77 X hf)
def fX1_nameFor (D : aD) (h : aH) (a0 : Option Nat) (a1 : Int32) (a2 : Int32) (a3 : Int32) : Option ((Nat ⊕ Int32) × aH) :=
  (aIs h 0 a0).bind fun _ =>
  bndT (fX1_figure D h a0 a1) fun x2 h3 =>
  bndT (fX1_in D h3 a2 (0 : Int32) (3 : Int32)) fun x5 h6 =>
  bndT (fX1_in D h6 a3 (0 : Int32) (3 : Int32)) fun x8 h9 =>
  (gR h9 4 4 x2).bind fun x10 =>
  (aIs h9 15 x10).bind fun _ =>
  (fJ2_size D h9 x10).bind fun x12 =>
  (some ((x12 - (1 : Int32)))).bind fun x14 =>
  fX1_nameFor_p33 D FU h9 a2 a3 x2 x14
theorem vX1_nameFor {h : aH} {a0 : Option Nat} {a1 : Int32} {a2 : Int32} {a3 : Int32} {q : Nat ⊕ Int32} {g : aH} (X : aX p l R s m meth c D n0 s0 yX1_nameFor cX1_nameFor 8 124 7 (some .int) h0) (hf : fX1_nameFor D h a0 a1 a2 a3 = some (q, g)) : V p l e R s m args below meth c D n0 s0 (aEnd D below args s h0 (wI q, g)) h 0 [(0, false, va_rf a0), (1, false, .int a1), (2, false, .int a2), (3, false, .int a3)] [] := by
  have C := X.1
  unfold fX1_nameFor at hf
  refine v_aload_n (pc := 0) (j := 0) C dX1_nameFor_0 rfl rfl ?_
  refine v_iload_n (pc := 1) (j := 1) C dX1_nameFor_1 rfl rfl ?_
  obtain ⟨b1, eb1, hf⟩ := oB hf
  obtain ⟨rb1, _, kb1⟩ := aIs_eq eb1
  rcases bndT_eq hf with ⟨_, _, ex2, qx2⟩ | ⟨x2, h3, ex2, hf⟩
  · cases qx2; exact v_ofDx (pc := 2) C X.2.1 X.2.2.1 rfl X.2.2.2.2.1 (d_V (pc := 2) C (As := [.int a1]) (rest := []) rb1 kb1 nt_0 q1849 yi_X1_figure_FigureSurvey yk_X1_figure rfl (by decide) (by decide) (Nat.le_trans aw_0 (by decide)) rfl (mX1_figure C.st ex2) dX1_nameFor_2)
  refine v_call (pc := 2) (d_V (pc := 2) C (As := [.int a1]) (rest := []) rb1 kb1 nt_0 q1849 yi_X1_figure_FigureSurvey yk_X1_figure rfl (by decide) (by decide) (Nat.le_trans aw_0 (by decide)) rfl (mX1_figure C.st ex2) dX1_nameFor_2) ?_
  refine v_astore (pc := 5) (lv' := [(4, false, va_rf x2), (0, false, va_rf a0), (1, false, .int a1), (2, false, .int a2), (3, false, .int a3)]) C dX1_nameFor_5 (by decide) rfl ?_
  refine v_iload_n (pc := 7) (j := 3) C dX1_nameFor_7 rfl rfl ?_
  refine v_iconst (pc := 8) (v := (0 : Int32)) C dX1_nameFor_8 rfl ?_
  refine v_iconst (pc := 9) (v := (3 : Int32)) C dX1_nameFor_9 rfl ?_
  rcases bndT_eq hf with ⟨_, _, ex5, qx5⟩ | ⟨x5, h6, ex5, hf⟩
  · cases qx5; exact v_ofDx (pc := 10) C X.2.1 X.2.2.1 rfl X.2.2.2.2.1 (d_S (pc := 10) C (As := [.int a2, .int (0 : Int32), .int (3 : Int32)]) (rest := []) q1578 q1579 yk_X1_in rfl (by decide) (by decide) (Nat.le_trans aw_0 (by decide)) rfl (mX1_in C.st ex5) dX1_nameFor_10)
  refine v_call (pc := 10) (d_S (pc := 10) C (As := [.int a2, .int (0 : Int32), .int (3 : Int32)]) (rest := []) q1578 q1579 yk_X1_in rfl (by decide) (by decide) (Nat.le_trans aw_0 (by decide)) rfl (mX1_in C.st ex5) dX1_nameFor_10) ?_
  refine v_pop (pc := 13) C dX1_nameFor_13 rfl ?_
  refine v_iload_n (pc := 14) (j := 4) C dX1_nameFor_14 rfl rfl ?_
  refine v_iconst (pc := 15) (v := (0 : Int32)) C dX1_nameFor_15 rfl ?_
  refine v_iconst (pc := 16) (v := (3 : Int32)) C dX1_nameFor_16 rfl ?_
  rcases bndT_eq hf with ⟨_, _, ex8, qx8⟩ | ⟨x8, h9, ex8, hf⟩
  · cases qx8; exact v_ofDx (pc := 17) C X.2.1 X.2.2.1 rfl X.2.2.2.2.1 (d_S (pc := 17) C (As := [.int a3, .int (0 : Int32), .int (3 : Int32)]) (rest := []) q1578 q1579 yk_X1_in rfl (by decide) (by decide) (Nat.le_trans aw_0 (by decide)) rfl (mX1_in C.st ex8) dX1_nameFor_17)
  refine v_call (pc := 17) (d_S (pc := 17) C (As := [.int a3, .int (0 : Int32), .int (3 : Int32)]) (rest := []) q1578 q1579 yk_X1_in rfl (by decide) (by decide) (Nat.le_trans aw_0 (by decide)) rfl (mX1_in C.st ex8) dX1_nameFor_17) ?_
  refine v_pop (pc := 20) C dX1_nameFor_20 rfl ?_
  refine v_aload (pc := 21) (j := 0) C dX1_nameFor_21 rfl ?_
  obtain ⟨x10, ex10, hf⟩ := oB hf
  refine v_getF (pc := 23) C lk_X1_413 (gR_eq ex10) dX1_nameFor_23 ?_
  obtain ⟨b11, eb11, hf⟩ := oB hf
  obtain ⟨rb11, _, kb11⟩ := aIs_eq eb11
  obtain ⟨x12, ex12, hf⟩ := oB hf
  refine v_call (pc := 26) (d_V (pc := 26) C (As := []) (rest := []) rb11 kb11 nt_15 q375 yi_J2_size_java_util_ArrayList yk_J2_size rfl (by decide) (by decide) (Nat.le_trans aw_0 (by decide)) rfl (mJ2_size C.st ex12) dX1_nameFor_26) ?_
  refine v_iconst (pc := 29) (v := (1 : Int32)) C dX1_nameFor_29 rfl ?_
  refine v_isub (pc := 30) C dX1_nameFor_30 ?_
  obtain ⟨x14, ex14, hf⟩ := oB hf
  refine vst (Option.some.inj ex14) (fun z => .int z :: []) ?_
  refine v_istore (pc := 31) (lv' := [(5, false, .int x14), (4, false, va_rf x2), (0, false, va_rf a0), (1, false, .int a1), (2, false, .int a2), (3, false, .int a3)]) C dX1_nameFor_31 (by decide) rfl ?_
  exact V.sub [4, 5, 1, 0] rfl (vX1_nameFor_p33 X _ _ _ _ _ _ _ _ hf)
theorem mX1_nameFor {l : Launch} {D : aD} {h : aH} {a0 : Option Nat} {a1 : Int32} {a2 : Int32} {a3 : Int32} {q : Nat ⊕ Int32} {g : aH} (hst : l.stackTraces = false) (hf : fX1_nameFor D h a0 a1 a2 a3 = some (q, g)) : aM l D yX1_nameFor cX1_nameFor 7 (some .int) 8 124 [va_rf a0, .int a1, .int a2, .int a3] h (wI q, g) :=
  aM.ofX [(false, va_rf a0), (false, .int a1), (false, .int a2), (false, .int a3)] rfl (ap_r (ap_c rfl (ap_c rfl (ap_c rfl ap_0)))) (by decide +kernel) hst (al_of (aw_r (aw_i (aw_i (aw_i aw_0)))) (by decide)) fun p e s m args below meth c X => V.sub (lv' := [(0, false, va_rf a0), (1, false, .int a1), (2, false, .int a2), (3, false, .int a3)]) [0, 1, 2, 3] rfl (vX1_nameFor X hf)
def fX1_setRight_p54 (D : aD) (h : aH) (a5 : Int32) (t0 : Option Nat) (t1 : Int32) : Option ((Nat ⊕ Int32) × aH) :=
  (pF D h 2 5 t0 (.int t1)).bind fun h1 =>
  (ckZ a5).bind fun _ =>
  some (.inr a5, h1)
theorem vX1_setRight_p54 {h : aH} {a5 : Int32} {t0 : Option Nat} {t1 : Int32} {q : Nat ⊕ Int32} {g : aH} (X : aX p l R s m meth c D n0 s0 yX1_setRight cX1_setRight 8 124 6 (some .boolean) h0) (hf : fX1_setRight_p54 D h a5 t0 t1 = some (q, g)) : V p l e R s m args below meth c D n0 s0 (aEnd D below args s h0 (wI q, g)) h 54 [(5, false, .int a5)] [.int t1, va_rf t0] := by
  have C := X.1
  unfold fX1_setRight_p54 at hf
  obtain ⟨h1, eh1, hf⟩ := oB hf
  refine v_putF (pc := 54) C lk_X1_429 tyX3 tyX3_ok nmX3 (tyX3_ok 5 (by decide)) rfl rfl eh1 dX1_setRight_54 ?_
  refine v_iload (pc := 57) (j := 0) C dX1_setRight_57 rfl ?_
  obtain ⟨_, e2, hf⟩ := oB hf
  cases hf
  exact v_zreturn (pc := 59) C X.2.1 X.2.2.1 X.2.2.2.1 (ckZ_eq e2) rfl dX1_setRight_59
def fX1_setRight (D : aD) (h : aH) (a0 : Option Nat) (a1 : Int32) (a2 : Int32) (a3 : Int32) : Option ((Nat ⊕ Int32) × aH) :=
  (aIs h 0 a0).bind fun _ =>
  bndT (fX1_panel D h a0 a1) fun x2 h3 =>
  bndT (fX1_in D h3 a2 (0 : Int32) (3 : Int32)) fun x5 h6 =>
  (gI h6 2 5 x2).bind fun x7 =>
  (fX1_has_2 D h6 x7 a2).bind fun x9 =>
  if a3 = 0 then
  ((gI h6 2 5 x2).bind fun x11 =>
  fX1_setRight_p54 D h6 x9 x2 (x11 &&& (((1 : Int32) <<< (a2 &&& 31)) ^^^ (-1 : Int32))))
  else
  ((gI h6 2 5 x2).bind fun x12 =>
  fX1_setRight_p54 D h6 x9 x2 (x12 ||| ((1 : Int32) <<< (a2 &&& 31))))
theorem vX1_setRight {h : aH} {a0 : Option Nat} {a1 : Int32} {a2 : Int32} {a3 : Int32} {q : Nat ⊕ Int32} {g : aH} (X : aX p l R s m meth c D n0 s0 yX1_setRight cX1_setRight 8 124 6 (some .boolean) h0) (hf : fX1_setRight D h a0 a1 a2 a3 = some (q, g)) : V p l e R s m args below meth c D n0 s0 (aEnd D below args s h0 (wI q, g)) h 0 [(0, false, va_rf a0), (1, false, .int a1), (2, false, .int a2), (3, false, .int a3)] [] := by
  have C := X.1
  unfold fX1_setRight at hf
  refine v_aload_n (pc := 0) (j := 0) C dX1_setRight_0 rfl rfl ?_
  refine v_iload_n (pc := 1) (j := 1) C dX1_setRight_1 rfl rfl ?_
  obtain ⟨b1, eb1, hf⟩ := oB hf
  obtain ⟨rb1, _, kb1⟩ := aIs_eq eb1
  rcases bndT_eq hf with ⟨_, _, ex2, qx2⟩ | ⟨x2, h3, ex2, hf⟩
  · cases qx2; exact v_ofDx (pc := 2) C X.2.1 X.2.2.1 rfl X.2.2.2.2.1 (d_V (pc := 2) C (As := [.int a1]) (rest := []) rb1 kb1 nt_0 q1705 yi_X1_panel_FigureSurvey yk_X1_panel rfl (by decide) (by decide) (Nat.le_trans aw_0 (by decide)) rfl (mX1_panel C.st ex2) dX1_setRight_2)
  refine v_call (pc := 2) (d_V (pc := 2) C (As := [.int a1]) (rest := []) rb1 kb1 nt_0 q1705 yi_X1_panel_FigureSurvey yk_X1_panel rfl (by decide) (by decide) (Nat.le_trans aw_0 (by decide)) rfl (mX1_panel C.st ex2) dX1_setRight_2) ?_
  refine v_astore (pc := 5) (lv' := [(4, false, va_rf x2), (0, false, va_rf a0), (1, false, .int a1), (2, false, .int a2), (3, false, .int a3)]) C dX1_setRight_5 (by decide) rfl ?_
  refine v_iload_n (pc := 7) (j := 3) C dX1_setRight_7 rfl rfl ?_
  refine v_iconst (pc := 8) (v := (0 : Int32)) C dX1_setRight_8 rfl ?_
  refine v_iconst (pc := 9) (v := (3 : Int32)) C dX1_setRight_9 rfl ?_
  rcases bndT_eq hf with ⟨_, _, ex5, qx5⟩ | ⟨x5, h6, ex5, hf⟩
  · cases qx5; exact v_ofDx (pc := 10) C X.2.1 X.2.2.1 rfl X.2.2.2.2.1 (d_S (pc := 10) C (As := [.int a2, .int (0 : Int32), .int (3 : Int32)]) (rest := []) q1578 q1579 yk_X1_in rfl (by decide) (by decide) (Nat.le_trans aw_0 (by decide)) rfl (mX1_in C.st ex5) dX1_setRight_10)
  refine v_call (pc := 10) (d_S (pc := 10) C (As := [.int a2, .int (0 : Int32), .int (3 : Int32)]) (rest := []) q1578 q1579 yk_X1_in rfl (by decide) (by decide) (Nat.le_trans aw_0 (by decide)) rfl (mX1_in C.st ex5) dX1_setRight_10) ?_
  refine v_pop (pc := 13) C dX1_setRight_13 rfl ?_
  refine v_aload (pc := 14) (j := 0) C dX1_setRight_14 rfl ?_
  obtain ⟨x7, ex7, hf⟩ := oB hf
  refine v_getF (pc := 16) C lk_X1_429 (gI_eq ex7) dX1_setRight_16 ?_
  refine v_iload_n (pc := 19) (j := 3) C dX1_setRight_19 rfl rfl ?_
  obtain ⟨x9, ex9, hf⟩ := oB hf
  refine v_call (pc := 20) (d_S (pc := 20) C (As := [.int x7, .int a2]) (rest := []) q1251 q1244 yk_X1_has_2 rfl (by decide) (by decide) (Nat.le_trans aw_0 (by decide)) rfl (mX1_has_2 C.st ex9) dX1_setRight_20) ?_
  refine v_istore (pc := 23) (lv' := [(5, false, .int x9), (4, false, va_rf x2), (0, false, va_rf a0), (1, false, .int a1), (2, false, .int a2), (3, false, .int a3)]) C dX1_setRight_23 (by decide) rfl ?_
  refine v_aload (pc := 25) (j := 1) C dX1_setRight_25 rfl ?_
  refine v_iload_n (pc := 27) (j := 5) C dX1_setRight_27 rfl rfl ?_
  refine v_if_eq (pc := 28) (tgt := 43) C dX1_setRight_28 rfl (fun hc => ?_) (fun hc => ?_)
  · rw [if_pos hc] at hf
    refine v_aload (pc := 43) (j := 1) C dX1_setRight_43 rfl ?_
    obtain ⟨x11, ex11, hf⟩ := oB hf
    refine v_getF (pc := 45) C lk_X1_429 (gI_eq ex11) dX1_setRight_45 ?_
    refine v_iconst (pc := 48) (v := (1 : Int32)) C dX1_setRight_48 rfl ?_
    refine v_iload_n (pc := 49) (j := 4) C dX1_setRight_49 rfl rfl ?_
    refine v_ishl (pc := 50) C dX1_setRight_50 ?_
    refine v_iconst (pc := 51) (v := (-1 : Int32)) C dX1_setRight_51 rfl ?_
    refine v_ixor (pc := 52) C dX1_setRight_52 ?_
    refine v_iand (pc := 53) C dX1_setRight_53 ?_
    exact V.sub [0] rfl (vX1_setRight_p54 X hf)
  · rw [if_neg hc] at hf
    refine v_aload (pc := 31) (j := 1) C dX1_setRight_31 rfl ?_
    obtain ⟨x12, ex12, hf⟩ := oB hf
    refine v_getF (pc := 33) C lk_X1_429 (gI_eq ex12) dX1_setRight_33 ?_
    refine v_iconst (pc := 36) (v := (1 : Int32)) C dX1_setRight_36 rfl ?_
    refine v_iload_n (pc := 37) (j := 4) C dX1_setRight_37 rfl rfl ?_
    refine v_ishl (pc := 38) C dX1_setRight_38 ?_
    refine v_ior (pc := 39) C dX1_setRight_39 ?_
    refine v_goto (pc := 40) (tgt := 54) C dX1_setRight_40 rfl ?_
    exact V.sub [0] rfl (vX1_setRight_p54 X hf)
theorem mX1_setRight {l : Launch} {D : aD} {h : aH} {a0 : Option Nat} {a1 : Int32} {a2 : Int32} {a3 : Int32} {q : Nat ⊕ Int32} {g : aH} (hst : l.stackTraces = false) (hf : fX1_setRight D h a0 a1 a2 a3 = some (q, g)) : aM l D yX1_setRight cX1_setRight 6 (some .boolean) 8 124 [va_rf a0, .int a1, .int a2, .int a3] h (wI q, g) :=
  aM.ofX [(false, va_rf a0), (false, .int a1), (false, .int a2), (false, .int a3)] rfl (ap_r (ap_c rfl (ap_c rfl (ap_c rfl ap_0)))) (by decide +kernel) hst (al_of (aw_r (aw_i (aw_i (aw_i aw_0)))) (by decide)) fun p e s m args below meth c X => V.sub (lv' := [(0, false, va_rf a0), (1, false, .int a1), (2, false, .int a2), (3, false, .int a3)]) [0, 1, 2, 3] rfl (vX1_setRight X hf)
def fX1_passYears_p103 (D : aD) (K30 : aH → (Option Nat) → Int32 → Int32 → Option ((Nat ⊕ Int32) × aH)) (h : aH) (a0 : Option Nat) (a1 : Int32) (a2 : Int32) : Option ((Nat ⊕ Int32) × aH) :=
  K30 h a0 a1 (a2 + 1)
theorem vX1_passYears_p103 {h : aH} {K30 : aH → (Option Nat) → Int32 → Int32 → Option ((Nat ⊕ Int32) × aH)} {a0 : Option Nat} {a1 : Int32} {a2 : Int32} {q : Nat ⊕ Int32} {g : aH} (X : aX p l R s m meth c D n0 s0 yX1_passYears cX1_passYears 7 104 5 (some .int) h0) (k30 : ∀ (h : aH) (a0 : Option Nat) (a1 : Int32) (a2 : Int32) (q : Nat ⊕ Int32) (g : aH), K30 h a0 a1 a2 = some (q, g) → V p l e R s m args below meth c D n0 s0 (aEnd D below args s h0 (wI q, g)) h 30 [(0, false, va_rf a0), (1, false, .int a1), (2, false, .int a2)] []) (hf : fX1_passYears_p103 D K30 h a0 a1 a2 = some (q, g)) : V p l e R s m args below meth c D n0 s0 (aEnd D below args s h0 (wI q, g)) h 103 [(0, false, va_rf a0), (1, false, .int a1), (2, false, .int a2)] [] := by
  have C := X.1
  unfold fX1_passYears_p103 at hf
  refine v_iinc (pc := 103) (j := 2) (v := (a2 + 1)) (lv' := [(2, false, .int (a2 + 1)), (0, false, va_rf a0), (1, false, .int a1)]) C dX1_passYears_103 rfl rfl (by decide) rfl ?_
  refine v_goto (pc := 106) (tgt := 30) C dX1_passYears_106 rfl ?_
  exact V.sub [1, 2, 0] rfl (k30 _ _ _ _ _ _ hf)
def fX1_passYears_p47 (D : aD) (K30 : aH → (Option Nat) → Int32 → Int32 → Option ((Nat ⊕ Int32) × aH)) : Nat → aH → (Option Nat) → Int32 → Int32 → Int32 → Option ((Nat ⊕ Int32) × aH)
  | 0, _, _, _, _, _ => none
  | n + 1, h, a0, a1, a2, a3 =>
  (gR h 0 1 a0).bind fun x1 =>
  (aIs h 15 x1).bind fun _ =>
  (fJ2_size D h x1).bind fun x3 =>
  if x3 ≤ a3 then
  (fX1_passYears_p103 D K30 h a0 a1 a2)
  else
  ((gR h 0 1 a0).bind fun x5 =>
  (aIs h 15 x5).bind fun _ =>
  (fJ2_get D h x5 a3).bind fun x7 =>
  (aCast h [2] x7).bind fun _ =>
  (gI h 2 10 x7).bind fun x10 =>
  (aIs h 2 x7).bind fun _ =>
  (fX3_decay D h x7).bind fun x12 =>
  (fJ11_max D h (0 : Int32) (x10 - x12)).bind fun x15 =>
  (pF D h 2 10 x7 (.int x15)).bind fun h17 =>
  (pF D h17 2 12 x7 (.int (0 : Int32))).bind fun h18 =>
  fX1_passYears_p47 D K30 n h18 a0 a1 a2 (a3 + 1))
theorem vX1_passYears_p47 {K30 : aH → (Option Nat) → Int32 → Int32 → Option ((Nat ⊕ Int32) × aH)} (X : aX p l R s m meth c D n0 s0 yX1_passYears cX1_passYears 7 104 5 (some .int) h0) (k30 : ∀ (h : aH) (a0 : Option Nat) (a1 : Int32) (a2 : Int32) (q : Nat ⊕ Int32) (g : aH), K30 h a0 a1 a2 = some (q, g) → V p l e R s m args below meth c D n0 s0 (aEnd D below args s h0 (wI q, g)) h 30 [(0, false, va_rf a0), (1, false, .int a1), (2, false, .int a2)] []) : ∀ (n : Nat) (h : aH) (a0 : Option Nat) (a1 : Int32) (a2 : Int32) (a3 : Int32) (q : Nat ⊕ Int32) (g : aH), fX1_passYears_p47 D K30 n h a0 a1 a2 a3 = some (q, g) → V p l e R s m args below meth c D n0 s0 (aEnd D below args s h0 (wI q, g)) h 47 [(0, false, va_rf a0), (1, false, .int a1), (2, false, .int a2), (3, false, .int a3)] [] := by
  have C := X.1
  intro n
  induction n with
  | zero =>
    intro _ _ _ _ _ _ _ hf
    rw [fX1_passYears_p47] at hf
    cases hf
  | succ n ih =>
    intro h a0 a1 a2 a3 q g hf
    rw [fX1_passYears_p47] at hf
    refine v_iload_n (pc := 47) (j := 3) C dX1_passYears_47 rfl rfl ?_
    refine v_aload_n (pc := 48) (j := 0) C dX1_passYears_48 rfl rfl ?_
    obtain ⟨x1, ex1, hf⟩ := oB hf
    refine v_getF (pc := 49) C lk_X1_49 (gR_eq ex1) dX1_passYears_49 ?_
    obtain ⟨b2, eb2, hf⟩ := oB hf
    obtain ⟨rb2, _, kb2⟩ := aIs_eq eb2
    obtain ⟨x3, ex3, hf⟩ := oB hf
    refine v_call (pc := 52) (d_V (pc := 52) C (As := []) (rest := [.int a3]) rb2 kb2 nt_15 q375 yi_J2_size_java_util_ArrayList yk_J2_size rfl (by decide) (by decide) (Nat.le_trans (aw_i aw_0) (by decide)) rfl (mJ2_size C.st ex3) dX1_passYears_52) ?_
    refine v_icmp_ge (pc := 55) (tgt := 103) C dX1_passYears_55 rfl (fun hc => ?_) (fun hc => ?_)
    · rw [if_pos hc] at hf
      exact V.sub [0, 1, 2] rfl (vX1_passYears_p103 X k30 hf)
    · rw [if_neg hc] at hf
      refine v_aload_n (pc := 58) (j := 0) C dX1_passYears_58 rfl rfl ?_
      obtain ⟨x5, ex5, hf⟩ := oB hf
      refine v_getF (pc := 59) C lk_X1_49 (gR_eq ex5) dX1_passYears_59 ?_
      refine v_iload_n (pc := 62) (j := 3) C dX1_passYears_62 rfl rfl ?_
      obtain ⟨b6, eb6, hf⟩ := oB hf
      obtain ⟨rb6, _, kb6⟩ := aIs_eq eb6
      obtain ⟨x7, ex7, hf⟩ := oB hf
      refine v_call (pc := 63) (d_V (pc := 63) C (As := [.int a3]) (rest := []) rb6 kb6 nt_15 q379 yi_J2_get_java_util_ArrayList yk_J2_get rfl (by decide) (by decide) (Nat.le_trans aw_0 (by decide)) rfl (mJ2_get C.st ex7) dX1_passYears_63) ?_
      obtain ⟨_, e9, hf⟩ := oB hf
      refine v_cast (pc := 66) C q393 ct_FigureSurvey_Panel e9 dX1_passYears_66 ?_
      refine v_astore (pc := 69) (lv' := [(4, false, va_rf x7), (0, false, va_rf a0), (1, false, .int a1), (2, false, .int a2), (3, false, .int a3)]) C dX1_passYears_69 (by decide) rfl ?_
      refine v_aload (pc := 71) (j := 0) C dX1_passYears_71 rfl ?_
      refine v_iconst (pc := 73) (v := (0 : Int32)) C dX1_passYears_73 rfl ?_
      refine v_aload (pc := 74) (j := 0) C dX1_passYears_74 rfl ?_
      obtain ⟨x10, ex10, hf⟩ := oB hf
      refine v_getF (pc := 76) C lk_X1_437 (gI_eq ex10) dX1_passYears_76 ?_
      refine v_aload (pc := 79) (j := 0) C dX1_passYears_79 rfl ?_
      obtain ⟨b11, eb11, hf⟩ := oB hf
      obtain ⟨rb11, _, kb11⟩ := aIs_eq eb11
      obtain ⟨x12, ex12, hf⟩ := oB hf
      refine v_call (pc := 81) (d_V (pc := 81) C (As := []) (rest := [.int x10, .int (0 : Int32), va_rf x7]) rb11 kb11 nt_2 q2313 yi_X3_decay_FigureSurvey_Panel yk_X3_decay rfl (by decide) (by decide) (Nat.le_trans (aw_i (aw_i (aw_r aw_0))) (by decide)) rfl (mX3_decay C.st ex12) dX1_passYears_81) ?_
      refine v_isub (pc := 84) C dX1_passYears_84 ?_
      obtain ⟨x15, ex15, hf⟩ := oB hf
      refine v_call (pc := 85) (d_S (pc := 85) C (As := [.int (0 : Int32), .int (x10 - x12)]) (rest := [va_rf x7]) q2318 q424 yk_J11_max rfl (by decide) (by decide) (Nat.le_trans (aw_r aw_0) (by decide)) rfl (mJ11_max C.st ex15) dX1_passYears_85) ?_
      obtain ⟨h17, eh17, hf⟩ := oB hf
      refine v_putF (pc := 88) C lk_X1_437 tyX3 tyX3_ok nmX3 (tyX3_ok 10 (by decide)) rfl rfl eh17 dX1_passYears_88 ?_
      refine v_aload (pc := 91) (j := 0) C dX1_passYears_91 rfl ?_
      refine v_iconst (pc := 93) (v := (0 : Int32)) C dX1_passYears_93 rfl ?_
      obtain ⟨h18, eh18, hf⟩ := oB hf
      refine v_putF (pc := 94) C lk_X1_446 tyX3 tyX3_ok nmX3 (tyX3_ok 12 (by decide)) rfl rfl eh18 dX1_passYears_94 ?_
      refine v_iinc (pc := 97) (j := 4) (v := (a3 + 1)) (lv' := [(3, false, .int (a3 + 1)), (4, false, va_rf x7), (0, false, va_rf a0), (1, false, .int a1), (2, false, .int a2)]) C dX1_passYears_97 rfl rfl (by decide) rfl ?_
      refine v_goto (pc := 100) (tgt := 47) C dX1_passYears_100 rfl ?_
      exact V.sub [2, 3, 4, 0] rfl (ih _ _ _ _ _ _ _ hf)
def fX1_passYears_p109 (D : aD) (h : aH) (a0 : Option Nat) : Option ((Nat ⊕ Int32) × aH) :=
  (gI h 0 13 a0).bind fun x1 =>
  some (.inr x1, h)
theorem vX1_passYears_p109 {h : aH} {a0 : Option Nat} {q : Nat ⊕ Int32} {g : aH} (X : aX p l R s m meth c D n0 s0 yX1_passYears cX1_passYears 7 104 5 (some .int) h0) (hf : fX1_passYears_p109 D h a0 = some (q, g)) : V p l e R s m args below meth c D n0 s0 (aEnd D below args s h0 (wI q, g)) h 109 [(0, false, va_rf a0)] [] := by
  have C := X.1
  unfold fX1_passYears_p109 at hf
  refine v_aload_n (pc := 109) (j := 0) C dX1_passYears_109 rfl rfl ?_
  obtain ⟨x1, ex1, hf⟩ := oB hf
  refine v_getF (pc := 110) C lk_X1_116 (gI_eq ex1) dX1_passYears_110 ?_
  cases hf
  exact v_ireturn (pc := 113) C X.2.1 X.2.2.1 X.2.2.2.1 rfl dX1_passYears_113
def fX1_passYears_p30 (D : aD) : Nat → aH → (Option Nat) → Int32 → Int32 → Option ((Nat ⊕ Int32) × aH)
  | 0, _, _, _, _ => none
  | n + 1, h, a0, a1, a2 =>
  if a1 ≤ a2 then
  (fX1_passYears_p109 D h a0)
  else
  ((gI h 0 13 a0).bind fun x1 =>
  (pF D h 0 13 a0 (.int (x1 + (1 : Int32)))).bind fun h2 =>
  fX1_passYears_p47 D (fX1_passYears_p30 D n) FU h2 a0 a1 a2 (0 : Int32))
theorem vX1_passYears_p30 (X : aX p l R s m meth c D n0 s0 yX1_passYears cX1_passYears 7 104 5 (some .int) h0) : ∀ (n : Nat) (h : aH) (a0 : Option Nat) (a1 : Int32) (a2 : Int32) (q : Nat ⊕ Int32) (g : aH), fX1_passYears_p30 D n h a0 a1 a2 = some (q, g) → V p l e R s m args below meth c D n0 s0 (aEnd D below args s h0 (wI q, g)) h 30 [(0, false, va_rf a0), (1, false, .int a1), (2, false, .int a2)] [] := by
  have C := X.1
  intro n
  induction n with
  | zero =>
    intro _ _ _ _ _ _ hf
    rw [fX1_passYears_p30] at hf
    cases hf
  | succ n ih =>
    intro h a0 a1 a2 q g hf
    rw [fX1_passYears_p30] at hf
    refine v_iload_n (pc := 30) (j := 2) C dX1_passYears_30 rfl rfl ?_
    refine v_iload_n (pc := 31) (j := 1) C dX1_passYears_31 rfl rfl ?_
    refine v_icmp_ge (pc := 32) (tgt := 109) C dX1_passYears_32 rfl (fun hc => ?_) (fun hc => ?_)
    · rw [if_pos hc] at hf
      exact V.sub [0] rfl (vX1_passYears_p109 X hf)
    · rw [if_neg hc] at hf
      refine v_aload_n (pc := 35) (j := 0) C dX1_passYears_35 rfl rfl ?_
      refine v_dup (pc := 36) C dX1_passYears_36 (va_rfc _) ?_
      obtain ⟨x1, ex1, hf⟩ := oB hf
      refine v_getF (pc := 37) C lk_X1_116 (gI_eq ex1) dX1_passYears_37 ?_
      refine v_iconst (pc := 40) (v := (1 : Int32)) C dX1_passYears_40 rfl ?_
      refine v_iadd (pc := 41) C dX1_passYears_41 ?_
      obtain ⟨h2, eh2, hf⟩ := oB hf
      refine v_putF (pc := 42) C lk_X1_116 tyX1 tyX1_ok nmX1 (tyX1_ok 13 (by decide)) rfl rfl eh2 dX1_passYears_42 ?_
      refine v_iconst (pc := 45) (v := (0 : Int32)) C dX1_passYears_45 rfl ?_
      refine v_istore_n (pc := 46) (lv' := [(3, false, .int (0 : Int32)), (0, false, va_rf a0), (1, false, .int a1), (2, false, .int a2)]) C dX1_passYears_46 rfl (by decide) rfl ?_
      exact V.sub [1, 2, 3, 0] rfl (vX1_passYears_p47 X ih _ _ _ _ _ _ _ _ hf)
def fX1_passYears_p25 (D : aD) (h : aH) (a0 : Option Nat) (a1 : Int32) (t0 : Int32) : Option ((Nat ⊕ Int32) × aH) :=
  bndT (fX1_must D h t0) fun _ h3 =>
  fX1_passYears_p30 D FU h3 a0 a1 (0 : Int32)
theorem vX1_passYears_p25 {h : aH} {a0 : Option Nat} {a1 : Int32} {t0 : Int32} {q : Nat ⊕ Int32} {g : aH} (X : aX p l R s m meth c D n0 s0 yX1_passYears cX1_passYears 7 104 5 (some .int) h0) (hf : fX1_passYears_p25 D h a0 a1 t0 = some (q, g)) : V p l e R s m args below meth c D n0 s0 (aEnd D below args s h0 (wI q, g)) h 25 [(0, false, va_rf a0), (1, false, .int a1)] [.int t0] := by
  have C := X.1
  unfold fX1_passYears_p25 at hf
  rcases bndT_eq hf with ⟨_, _, ex2, qx2⟩ | ⟨x2, h3, ex2, hf⟩
  · cases qx2; exact v_ofDx (pc := 25) C X.2.1 X.2.2.1 rfl X.2.2.2.2.1 (d_S (pc := 25) C (As := [.int t0]) (rest := []) q1595 q1596 yk_X1_must rfl (by decide) (by decide) (Nat.le_trans aw_0 (by decide)) rfl (mX1_must C.st ex2) dX1_passYears_25)
  refine v_callU (pc := 25) (d_S (pc := 25) C (As := [.int t0]) (rest := []) q1595 q1596 yk_X1_must rfl (by decide) (by decide) (Nat.le_trans aw_0 (by decide)) rfl (mX1_must C.st ex2) dX1_passYears_25) ?_
  refine v_iconst (pc := 28) (v := (0 : Int32)) C dX1_passYears_28 rfl ?_
  refine v_istore_n (pc := 29) (lv' := [(2, false, .int (0 : Int32)), (0, false, va_rf a0), (1, false, .int a1)]) C dX1_passYears_29 rfl (by decide) rfl ?_
  exact V.sub [1, 2, 0] rfl (vX1_passYears_p30 X _ _ _ _ _ _ _ hf)
def fX1_passYears (D : aD) (h : aH) (a0 : Option Nat) (a1 : Int32) : Option ((Nat ⊕ Int32) × aH) :=
  bndT (fX1_in D h a1 (1 : Int32) (50 : Int32)) fun x2 h3 =>
  (gI h3 0 13 a0).bind fun x4 =>
  fX1_passYears_p25 D h3 a0 a1 (if (200 : Int32) < (x4 + a1) then (0 : Int32) else (1 : Int32))
theorem vX1_passYears {h : aH} {a0 : Option Nat} {a1 : Int32} {q : Nat ⊕ Int32} {g : aH} (X : aX p l R s m meth c D n0 s0 yX1_passYears cX1_passYears 7 104 5 (some .int) h0) (hf : fX1_passYears D h a0 a1 = some (q, g)) : V p l e R s m args below meth c D n0 s0 (aEnd D below args s h0 (wI q, g)) h 0 [(0, false, va_rf a0), (1, false, .int a1)] [] := by
  have C := X.1
  unfold fX1_passYears at hf
  refine v_iload_n (pc := 0) (j := 1) C dX1_passYears_0 rfl rfl ?_
  refine v_iconst (pc := 1) (v := (1 : Int32)) C dX1_passYears_1 rfl ?_
  refine v_bipush (pc := 2) (v := (50 : Int32)) C dX1_passYears_2 rfl ?_
  rcases bndT_eq hf with ⟨_, _, ex2, qx2⟩ | ⟨x2, h3, ex2, hf⟩
  · cases qx2; exact v_ofDx (pc := 4) C X.2.1 X.2.2.1 rfl X.2.2.2.2.1 (d_S (pc := 4) C (As := [.int a1, .int (1 : Int32), .int (50 : Int32)]) (rest := []) q1578 q1579 yk_X1_in rfl (by decide) (by decide) (Nat.le_trans aw_0 (by decide)) rfl (mX1_in C.st ex2) dX1_passYears_4)
  refine v_call (pc := 4) (d_S (pc := 4) C (As := [.int a1, .int (1 : Int32), .int (50 : Int32)]) (rest := []) q1578 q1579 yk_X1_in rfl (by decide) (by decide) (Nat.le_trans aw_0 (by decide)) rfl (mX1_in C.st ex2) dX1_passYears_4) ?_
  refine v_pop (pc := 7) C dX1_passYears_7 rfl ?_
  refine v_aload_n (pc := 8) (j := 0) C dX1_passYears_8 rfl rfl ?_
  obtain ⟨x4, ex4, hf⟩ := oB hf
  refine v_getF (pc := 9) C lk_X1_116 (gI_eq ex4) dX1_passYears_9 ?_
  refine v_iload_n (pc := 12) (j := 1) C dX1_passYears_12 rfl rfl ?_
  refine v_iadd (pc := 13) C dX1_passYears_13 ?_
  refine v_sipush (pc := 14) (v := (200 : Int32)) C dX1_passYears_14 rfl ?_
  refine v_icmp_gt (pc := 17) (tgt := 24) C dX1_passYears_17 rfl (fun hc => ?_) (fun hc => ?_)
  · simp only [if_pos hc] at hf
    refine v_iconst (pc := 24) (v := (0 : Int32)) C dX1_passYears_24 rfl ?_
    exact V.sub [0, 1] rfl (vX1_passYears_p25 X hf)
  · simp only [if_neg hc] at hf
    refine v_iconst (pc := 20) (v := (1 : Int32)) C dX1_passYears_20 rfl ?_
    refine v_goto (pc := 21) (tgt := 25) C dX1_passYears_21 rfl ?_
    exact V.sub [0, 1] rfl (vX1_passYears_p25 X hf)
theorem mX1_passYears {l : Launch} {D : aD} {h : aH} {a0 : Option Nat} {a1 : Int32} {q : Nat ⊕ Int32} {g : aH} (hst : l.stackTraces = false) (hf : fX1_passYears D h a0 a1 = some (q, g)) : aM l D yX1_passYears cX1_passYears 5 (some .int) 7 104 [va_rf a0, .int a1] h (wI q, g) :=
  aM.ofX [(false, va_rf a0), (false, .int a1)] rfl (ap_r (ap_c rfl ap_0)) (by decide +kernel) hst (al_of (aw_r (aw_i aw_0)) (by decide)) fun p e s m args below meth c X => V.sub (lv' := [(0, false, va_rf a0), (1, false, .int a1)]) [0, 1] rfl (vX1_passYears X hf)
def fX1_setDecay (D : aD) (h : aH) (a0 : Option Nat) (a1 : Int32) (a2 : Int32) (a3 : Int32) (a4 : Int32) : Option ((Nat ⊕ Int32) × aH) :=
  (aIs h 0 a0).bind fun _ =>
  bndT (fX1_panel D h a0 a1) fun x2 h3 =>
  bndT (fX1_in D h3 a2 (0 : Int32) (9 : Int32)) fun x5 h6 =>
  bndT (fX1_in D h6 a3 (0 : Int32) (9 : Int32)) fun x8 h9 =>
  bndT (fX1_in D h9 a4 (0 : Int32) (9 : Int32)) fun x11 h12 =>
  (pF D h12 2 6 x2 (.int a2)).bind fun h13 =>
  (pF D h13 2 7 x2 (.int a3)).bind fun h14 =>
  (pF D h14 2 8 x2 (.int a4)).bind fun h15 =>
  (aIs h15 2 x2).bind fun _ =>
  (fX3_decay D h15 x2).bind fun x17 =>
  some (.inr x17, h15)
theorem vX1_setDecay {h : aH} {a0 : Option Nat} {a1 : Int32} {a2 : Int32} {a3 : Int32} {a4 : Int32} {q : Nat ⊕ Int32} {g : aH} (X : aX p l R s m meth c D n0 s0 yX1_setDecay cX1_setDecay 8 124 6 (some .int) h0) (hf : fX1_setDecay D h a0 a1 a2 a3 a4 = some (q, g)) : V p l e R s m args below meth c D n0 s0 (aEnd D below args s h0 (wI q, g)) h 0 [(0, false, va_rf a0), (1, false, .int a1), (2, false, .int a2), (3, false, .int a3), (4, false, .int a4)] [] := by
  have C := X.1
  unfold fX1_setDecay at hf
  refine v_aload_n (pc := 0) (j := 0) C dX1_setDecay_0 rfl rfl ?_
  refine v_iload_n (pc := 1) (j := 1) C dX1_setDecay_1 rfl rfl ?_
  obtain ⟨b1, eb1, hf⟩ := oB hf
  obtain ⟨rb1, _, kb1⟩ := aIs_eq eb1
  rcases bndT_eq hf with ⟨_, _, ex2, qx2⟩ | ⟨x2, h3, ex2, hf⟩
  · cases qx2; exact v_ofDx (pc := 2) C X.2.1 X.2.2.1 rfl X.2.2.2.2.1 (d_V (pc := 2) C (As := [.int a1]) (rest := []) rb1 kb1 nt_0 q1705 yi_X1_panel_FigureSurvey yk_X1_panel rfl (by decide) (by decide) (Nat.le_trans aw_0 (by decide)) rfl (mX1_panel C.st ex2) dX1_setDecay_2)
  refine v_call (pc := 2) (d_V (pc := 2) C (As := [.int a1]) (rest := []) rb1 kb1 nt_0 q1705 yi_X1_panel_FigureSurvey yk_X1_panel rfl (by decide) (by decide) (Nat.le_trans aw_0 (by decide)) rfl (mX1_panel C.st ex2) dX1_setDecay_2) ?_
  refine v_astore (pc := 5) (lv' := [(5, false, va_rf x2), (0, false, va_rf a0), (1, false, .int a1), (2, false, .int a2), (3, false, .int a3), (4, false, .int a4)]) C dX1_setDecay_5 (by decide) rfl ?_
  refine v_iload_n (pc := 7) (j := 3) C dX1_setDecay_7 rfl rfl ?_
  refine v_iconst (pc := 8) (v := (0 : Int32)) C dX1_setDecay_8 rfl ?_
  refine v_bipush (pc := 9) (v := (9 : Int32)) C dX1_setDecay_9 rfl ?_
  rcases bndT_eq hf with ⟨_, _, ex5, qx5⟩ | ⟨x5, h6, ex5, hf⟩
  · cases qx5; exact v_ofDx (pc := 11) C X.2.1 X.2.2.1 rfl X.2.2.2.2.1 (d_S (pc := 11) C (As := [.int a2, .int (0 : Int32), .int (9 : Int32)]) (rest := []) q1578 q1579 yk_X1_in rfl (by decide) (by decide) (Nat.le_trans aw_0 (by decide)) rfl (mX1_in C.st ex5) dX1_setDecay_11)
  refine v_call (pc := 11) (d_S (pc := 11) C (As := [.int a2, .int (0 : Int32), .int (9 : Int32)]) (rest := []) q1578 q1579 yk_X1_in rfl (by decide) (by decide) (Nat.le_trans aw_0 (by decide)) rfl (mX1_in C.st ex5) dX1_setDecay_11) ?_
  refine v_pop (pc := 14) C dX1_setDecay_14 rfl ?_
  refine v_iload_n (pc := 15) (j := 4) C dX1_setDecay_15 rfl rfl ?_
  refine v_iconst (pc := 16) (v := (0 : Int32)) C dX1_setDecay_16 rfl ?_
  refine v_bipush (pc := 17) (v := (9 : Int32)) C dX1_setDecay_17 rfl ?_
  rcases bndT_eq hf with ⟨_, _, ex8, qx8⟩ | ⟨x8, h9, ex8, hf⟩
  · cases qx8; exact v_ofDx (pc := 19) C X.2.1 X.2.2.1 rfl X.2.2.2.2.1 (d_S (pc := 19) C (As := [.int a3, .int (0 : Int32), .int (9 : Int32)]) (rest := []) q1578 q1579 yk_X1_in rfl (by decide) (by decide) (Nat.le_trans aw_0 (by decide)) rfl (mX1_in C.st ex8) dX1_setDecay_19)
  refine v_call (pc := 19) (d_S (pc := 19) C (As := [.int a3, .int (0 : Int32), .int (9 : Int32)]) (rest := []) q1578 q1579 yk_X1_in rfl (by decide) (by decide) (Nat.le_trans aw_0 (by decide)) rfl (mX1_in C.st ex8) dX1_setDecay_19) ?_
  refine v_pop (pc := 22) C dX1_setDecay_22 rfl ?_
  refine v_iload (pc := 23) (j := 5) C dX1_setDecay_23 rfl ?_
  refine v_iconst (pc := 25) (v := (0 : Int32)) C dX1_setDecay_25 rfl ?_
  refine v_bipush (pc := 26) (v := (9 : Int32)) C dX1_setDecay_26 rfl ?_
  rcases bndT_eq hf with ⟨_, _, ex11, qx11⟩ | ⟨x11, h12, ex11, hf⟩
  · cases qx11; exact v_ofDx (pc := 28) C X.2.1 X.2.2.1 rfl X.2.2.2.2.1 (d_S (pc := 28) C (As := [.int a4, .int (0 : Int32), .int (9 : Int32)]) (rest := []) q1578 q1579 yk_X1_in rfl (by decide) (by decide) (Nat.le_trans aw_0 (by decide)) rfl (mX1_in C.st ex11) dX1_setDecay_28)
  refine v_call (pc := 28) (d_S (pc := 28) C (As := [.int a4, .int (0 : Int32), .int (9 : Int32)]) (rest := []) q1578 q1579 yk_X1_in rfl (by decide) (by decide) (Nat.le_trans aw_0 (by decide)) rfl (mX1_in C.st ex11) dX1_setDecay_28) ?_
  refine v_pop (pc := 31) C dX1_setDecay_31 rfl ?_
  refine v_aload (pc := 32) (j := 0) C dX1_setDecay_32 rfl ?_
  refine v_iload_n (pc := 34) (j := 3) C dX1_setDecay_34 rfl rfl ?_
  obtain ⟨h13, eh13, hf⟩ := oB hf
  refine v_putF (pc := 35) C lk_X1_449 tyX3 tyX3_ok nmX3 (tyX3_ok 6 (by decide)) rfl rfl eh13 dX1_setDecay_35 ?_
  refine v_aload (pc := 38) (j := 0) C dX1_setDecay_38 rfl ?_
  refine v_iload_n (pc := 40) (j := 4) C dX1_setDecay_40 rfl rfl ?_
  obtain ⟨h14, eh14, hf⟩ := oB hf
  refine v_putF (pc := 41) C lk_X1_452 tyX3 tyX3_ok nmX3 (tyX3_ok 7 (by decide)) rfl rfl eh14 dX1_setDecay_41 ?_
  refine v_aload (pc := 44) (j := 0) C dX1_setDecay_44 rfl ?_
  refine v_iload (pc := 46) (j := 5) C dX1_setDecay_46 rfl ?_
  obtain ⟨h15, eh15, hf⟩ := oB hf
  refine v_putF (pc := 48) C lk_X1_455 tyX3 tyX3_ok nmX3 (tyX3_ok 8 (by decide)) rfl rfl eh15 dX1_setDecay_48 ?_
  refine v_aload (pc := 51) (j := 0) C dX1_setDecay_51 rfl ?_
  obtain ⟨b16, eb16, hf⟩ := oB hf
  obtain ⟨rb16, _, kb16⟩ := aIs_eq eb16
  obtain ⟨x17, ex17, hf⟩ := oB hf
  refine v_call (pc := 53) (d_V (pc := 53) C (As := []) (rest := []) rb16 kb16 nt_2 q2313 yi_X3_decay_FigureSurvey_Panel yk_X3_decay rfl (by decide) (by decide) (Nat.le_trans aw_0 (by decide)) rfl (mX3_decay C.st ex17) dX1_setDecay_53) ?_
  cases hf
  exact v_ireturn (pc := 56) C X.2.1 X.2.2.1 X.2.2.2.1 rfl dX1_setDecay_56
theorem mX1_setDecay {l : Launch} {D : aD} {h : aH} {a0 : Option Nat} {a1 : Int32} {a2 : Int32} {a3 : Int32} {a4 : Int32} {q : Nat ⊕ Int32} {g : aH} (hst : l.stackTraces = false) (hf : fX1_setDecay D h a0 a1 a2 a3 a4 = some (q, g)) : aM l D yX1_setDecay cX1_setDecay 6 (some .int) 8 124 [va_rf a0, .int a1, .int a2, .int a3, .int a4] h (wI q, g) :=
  aM.ofX [(false, va_rf a0), (false, .int a1), (false, .int a2), (false, .int a3), (false, .int a4)] rfl (ap_r (ap_c rfl (ap_c rfl (ap_c rfl (ap_c rfl ap_0))))) (by decide +kernel) hst (al_of (aw_r (aw_i (aw_i (aw_i (aw_i aw_0))))) (by decide)) fun p e s m args below meth c X => V.sub (lv' := [(0, false, va_rf a0), (1, false, .int a1), (2, false, .int a2), (3, false, .int a3), (4, false, .int a4)]) [0, 1, 2, 3, 4] rfl (vX1_setDecay X hf)
def fX1_healthOf (D : aD) (h : aH) (a0 : Option Nat) (a1 : Int32) : Option ((Nat ⊕ Int32) × aH) :=
  (aIs h 0 a0).bind fun _ =>
  bndT (fX1_panel D h a0 a1) fun x2 h3 =>
  (gI h3 2 10 x2).bind fun x4 =>
  some (.inr x4, h3)
theorem vX1_healthOf {h : aH} {a0 : Option Nat} {a1 : Int32} {q : Nat ⊕ Int32} {g : aH} (X : aX p l R s m meth c D n0 s0 yX1_healthOf cX1_healthOf 8 124 2 (some .int) h0) (hf : fX1_healthOf D h a0 a1 = some (q, g)) : V p l e R s m args below meth c D n0 s0 (aEnd D below args s h0 (wI q, g)) h 0 [(0, false, va_rf a0), (1, false, .int a1)] [] := by
  have C := X.1
  unfold fX1_healthOf at hf
  refine v_aload_n (pc := 0) (j := 0) C dX1_healthOf_0 rfl rfl ?_
  refine v_iload_n (pc := 1) (j := 1) C dX1_healthOf_1 rfl rfl ?_
  obtain ⟨b1, eb1, hf⟩ := oB hf
  obtain ⟨rb1, _, kb1⟩ := aIs_eq eb1
  rcases bndT_eq hf with ⟨_, _, ex2, qx2⟩ | ⟨x2, h3, ex2, hf⟩
  · cases qx2; exact v_ofDx (pc := 2) C X.2.1 X.2.2.1 rfl X.2.2.2.2.1 (d_V (pc := 2) C (As := [.int a1]) (rest := []) rb1 kb1 nt_0 q1705 yi_X1_panel_FigureSurvey yk_X1_panel rfl (by decide) (by decide) (Nat.le_trans aw_0 (by decide)) rfl (mX1_panel C.st ex2) dX1_healthOf_2)
  refine v_call (pc := 2) (d_V (pc := 2) C (As := [.int a1]) (rest := []) rb1 kb1 nt_0 q1705 yi_X1_panel_FigureSurvey yk_X1_panel rfl (by decide) (by decide) (Nat.le_trans aw_0 (by decide)) rfl (mX1_panel C.st ex2) dX1_healthOf_2) ?_
  obtain ⟨x4, ex4, hf⟩ := oB hf
  refine v_getF (pc := 5) C lk_X1_437 (gI_eq ex4) dX1_healthOf_5 ?_
  cases hf
  exact v_ireturn (pc := 8) C X.2.1 X.2.2.1 X.2.2.2.1 rfl dX1_healthOf_8
theorem mX1_healthOf {l : Launch} {D : aD} {h : aH} {a0 : Option Nat} {a1 : Int32} {q : Nat ⊕ Int32} {g : aH} (hst : l.stackTraces = false) (hf : fX1_healthOf D h a0 a1 = some (q, g)) : aM l D yX1_healthOf cX1_healthOf 2 (some .int) 8 124 [va_rf a0, .int a1] h (wI q, g) :=
  aM.ofX [(false, va_rf a0), (false, .int a1)] rfl (ap_r (ap_c rfl ap_0)) (by decide +kernel) hst (al_of (aw_r (aw_i aw_0)) (by decide)) fun p e s m args below meth c X => V.sub (lv' := [(0, false, va_rf a0), (1, false, .int a1)]) [0, 1] rfl (vX1_healthOf X hf)
def fX1_addWork_p41 (D : aD) (h : aH) (a0 : Option Nat) (a2 : Int32) (a3 : Int32) (a4 : Option Nat) (t0 : Int32) : Option ((Nat ⊕ Int32) × aH) :=
  bndT (fX1_must D h t0) fun _ h3 =>
  (gR h3 0 11 a0).bind fun x4 =>
  (aMk D h3 (13, dfX14)).bind fun h5 =>
  (fX14_init D h5 (some h3.1) a4 a2 a3).bind fun h8 =>
  (aIs h8 15 x4).bind fun _ =>
  bnd2 (fJ2_add D h8 x4 (some h3.1)) fun x10 h11 =>
  (gR h11 0 11 a0).bind fun x12 =>
  (aIs h11 15 x12).bind fun _ =>
  (fJ2_size D h11 x12).bind fun x14 =>
  some (.inr (x14 - (1 : Int32)), h11)
theorem vX1_addWork_p41 {h : aH} {a0 : Option Nat} {a2 : Int32} {a3 : Int32} {a4 : Option Nat} {t0 : Int32} {q : Nat ⊕ Int32} {g : aH} (X : aX p l R s m meth c D n0 s0 yX1_addWork cX1_addWork 8 152 5 (some .int) h0) (hf : fX1_addWork_p41 D h a0 a2 a3 a4 t0 = some (q, g)) : V p l e R s m args below meth c D n0 s0 (aEnd D below args s h0 (wI q, g)) h 41 [(0, false, va_rf a0), (2, false, .int a2), (3, false, .int a3), (4, false, va_rf a4)] [.int t0] := by
  have C := X.1
  unfold fX1_addWork_p41 at hf
  rcases bndT_eq hf with ⟨_, _, ex2, qx2⟩ | ⟨x2, h3, ex2, hf⟩
  · cases qx2; exact v_ofDx (pc := 41) C X.2.1 X.2.2.1 rfl X.2.2.2.2.1 (d_S (pc := 41) C (As := [.int t0]) (rest := []) q1595 q1596 yk_X1_must rfl (by decide) (by decide) (Nat.le_trans aw_0 (by decide)) rfl (mX1_must C.st ex2) dX1_addWork_41)
  refine v_callU (pc := 41) (d_S (pc := 41) C (As := [.int t0]) (rest := []) q1595 q1596 yk_X1_must rfl (by decide) (by decide) (Nat.le_trans aw_0 (by decide)) rfl (mX1_must C.st ex2) dX1_addWork_41) ?_
  refine v_aload_n (pc := 44) (j := 0) C dX1_addWork_44 rfl rfl ?_
  obtain ⟨x4, ex4, hf⟩ := oB hf
  refine v_getF (pc := 45) C lk_X1_81 (gR_eq ex4) dX1_addWork_45 ?_
  obtain ⟨h5, eh5, hf⟩ := oB hf
  refine v_new (pc := 48) (t := 13) (fs := dfX14) (T := TX14) (N := 4) C rfl in_X14 tyX14 tyX14_ok q2340 q2341 q128 dfX14_ok rfl eh5 dX1_addWork_48 ?_
  refine v_dup (pc := 51) C dX1_addWork_51 (va_rfc _) ?_
  refine v_aload (pc := 52) (j := 3) C dX1_addWork_52 rfl ?_
  refine v_iload_n (pc := 54) (j := 1) C dX1_addWork_54 rfl rfl ?_
  refine v_iload_n (pc := 55) (j := 2) C dX1_addWork_55 rfl rfl ?_
  obtain ⟨h8, ex7, hf⟩ := oB hf
  refine v_callU (pc := 56) (d_I (pc := 56) C (As := [va_rf a4, .int a2, .int a3]) (rest := [va_rf (some h3.1), va_rf x4]) rfl rfl rfl q2342 q2343 yk_X14_init rfl (by decide) (by decide) (Nat.le_trans (aw_r (aw_r aw_0)) (by decide)) rfl (mX14_init C.st ex7) dX1_addWork_56) ?_
  obtain ⟨b9, eb9, hf⟩ := oB hf
  obtain ⟨rb9, _, kb9⟩ := aIs_eq eb9
  obtain ⟨x10, h11, ex10, hf⟩ := bnd2_eq hf
  refine v_call (pc := 59) (d_V (pc := 59) C (As := [va_rf (some h3.1)]) (rest := []) rb9 kb9 nt_15 q1673 yi_J2_add_java_util_ArrayList yk_J2_add rfl (by decide) (by decide) (Nat.le_trans aw_0 (by decide)) rfl (mJ2_add C.st ex10) dX1_addWork_59) ?_
  refine v_pop (pc := 62) C dX1_addWork_62 rfl ?_
  refine v_aload_n (pc := 63) (j := 0) C dX1_addWork_63 rfl rfl ?_
  obtain ⟨x12, ex12, hf⟩ := oB hf
  refine v_getF (pc := 64) C lk_X1_81 (gR_eq ex12) dX1_addWork_64 ?_
  obtain ⟨b13, eb13, hf⟩ := oB hf
  obtain ⟨rb13, _, kb13⟩ := aIs_eq eb13
  obtain ⟨x14, ex14, hf⟩ := oB hf
  refine v_call (pc := 67) (d_V (pc := 67) C (As := []) (rest := []) rb13 kb13 nt_15 q375 yi_J2_size_java_util_ArrayList yk_J2_size rfl (by decide) (by decide) (Nat.le_trans aw_0 (by decide)) rfl (mJ2_size C.st ex14) dX1_addWork_67) ?_
  refine v_iconst (pc := 70) (v := (1 : Int32)) C dX1_addWork_70 rfl ?_
  refine v_isub (pc := 71) C dX1_addWork_71 ?_
  cases hf
  exact v_ireturn (pc := 72) C X.2.1 X.2.2.1 X.2.2.2.1 rfl dX1_addWork_72
def fX1_addWork (D : aD) (h : aH) (a0 : Option Nat) (a1 : Int32) (a2 : Int32) (a3 : Int32) : Option ((Nat ⊕ Int32) × aH) :=
  (aIs h 0 a0).bind fun _ =>
  bndT (fX1_panel D h a0 a1) fun x2 h3 =>
  bndT (fX1_in D h3 a2 (1 : Int32) (1000 : Int32)) fun x5 h6 =>
  bndT (fX1_in D h6 a3 (1 : Int32) (50 : Int32)) fun x8 h9 =>
  (gR h9 0 11 a0).bind fun x10 =>
  (aIs h9 15 x10).bind fun _ =>
  (fJ2_size D h9 x10).bind fun x12 =>
  fX1_addWork_p41 D h9 a0 a2 a3 x2 (if (10 : Int32) ≤ x12 then (0 : Int32) else (1 : Int32))
theorem vX1_addWork {h : aH} {a0 : Option Nat} {a1 : Int32} {a2 : Int32} {a3 : Int32} {q : Nat ⊕ Int32} {g : aH} (X : aX p l R s m meth c D n0 s0 yX1_addWork cX1_addWork 8 152 5 (some .int) h0) (hf : fX1_addWork D h a0 a1 a2 a3 = some (q, g)) : V p l e R s m args below meth c D n0 s0 (aEnd D below args s h0 (wI q, g)) h 0 [(0, false, va_rf a0), (1, false, .int a1), (2, false, .int a2), (3, false, .int a3)] [] := by
  have C := X.1
  unfold fX1_addWork at hf
  refine v_aload_n (pc := 0) (j := 0) C dX1_addWork_0 rfl rfl ?_
  refine v_iload_n (pc := 1) (j := 1) C dX1_addWork_1 rfl rfl ?_
  obtain ⟨b1, eb1, hf⟩ := oB hf
  obtain ⟨rb1, _, kb1⟩ := aIs_eq eb1
  rcases bndT_eq hf with ⟨_, _, ex2, qx2⟩ | ⟨x2, h3, ex2, hf⟩
  · cases qx2; exact v_ofDx (pc := 2) C X.2.1 X.2.2.1 rfl X.2.2.2.2.1 (d_V (pc := 2) C (As := [.int a1]) (rest := []) rb1 kb1 nt_0 q1705 yi_X1_panel_FigureSurvey yk_X1_panel rfl (by decide) (by decide) (Nat.le_trans aw_0 (by decide)) rfl (mX1_panel C.st ex2) dX1_addWork_2)
  refine v_call (pc := 2) (d_V (pc := 2) C (As := [.int a1]) (rest := []) rb1 kb1 nt_0 q1705 yi_X1_panel_FigureSurvey yk_X1_panel rfl (by decide) (by decide) (Nat.le_trans aw_0 (by decide)) rfl (mX1_panel C.st ex2) dX1_addWork_2) ?_
  refine v_astore (pc := 5) (lv' := [(4, false, va_rf x2), (0, false, va_rf a0), (1, false, .int a1), (2, false, .int a2), (3, false, .int a3)]) C dX1_addWork_5 (by decide) rfl ?_
  refine v_iload_n (pc := 7) (j := 3) C dX1_addWork_7 rfl rfl ?_
  refine v_iconst (pc := 8) (v := (1 : Int32)) C dX1_addWork_8 rfl ?_
  refine v_sipush (pc := 9) (v := (1000 : Int32)) C dX1_addWork_9 rfl ?_
  rcases bndT_eq hf with ⟨_, _, ex5, qx5⟩ | ⟨x5, h6, ex5, hf⟩
  · cases qx5; exact v_ofDx (pc := 12) C X.2.1 X.2.2.1 rfl X.2.2.2.2.1 (d_S (pc := 12) C (As := [.int a2, .int (1 : Int32), .int (1000 : Int32)]) (rest := []) q1578 q1579 yk_X1_in rfl (by decide) (by decide) (Nat.le_trans aw_0 (by decide)) rfl (mX1_in C.st ex5) dX1_addWork_12)
  refine v_call (pc := 12) (d_S (pc := 12) C (As := [.int a2, .int (1 : Int32), .int (1000 : Int32)]) (rest := []) q1578 q1579 yk_X1_in rfl (by decide) (by decide) (Nat.le_trans aw_0 (by decide)) rfl (mX1_in C.st ex5) dX1_addWork_12) ?_
  refine v_pop (pc := 15) C dX1_addWork_15 rfl ?_
  refine v_iload_n (pc := 16) (j := 4) C dX1_addWork_16 rfl rfl ?_
  refine v_iconst (pc := 17) (v := (1 : Int32)) C dX1_addWork_17 rfl ?_
  refine v_bipush (pc := 18) (v := (50 : Int32)) C dX1_addWork_18 rfl ?_
  rcases bndT_eq hf with ⟨_, _, ex8, qx8⟩ | ⟨x8, h9, ex8, hf⟩
  · cases qx8; exact v_ofDx (pc := 20) C X.2.1 X.2.2.1 rfl X.2.2.2.2.1 (d_S (pc := 20) C (As := [.int a3, .int (1 : Int32), .int (50 : Int32)]) (rest := []) q1578 q1579 yk_X1_in rfl (by decide) (by decide) (Nat.le_trans aw_0 (by decide)) rfl (mX1_in C.st ex8) dX1_addWork_20)
  refine v_call (pc := 20) (d_S (pc := 20) C (As := [.int a3, .int (1 : Int32), .int (50 : Int32)]) (rest := []) q1578 q1579 yk_X1_in rfl (by decide) (by decide) (Nat.le_trans aw_0 (by decide)) rfl (mX1_in C.st ex8) dX1_addWork_20) ?_
  refine v_pop (pc := 23) C dX1_addWork_23 rfl ?_
  refine v_aload_n (pc := 24) (j := 1) C dX1_addWork_24 rfl rfl ?_
  obtain ⟨x10, ex10, hf⟩ := oB hf
  refine v_getF (pc := 25) C lk_X1_81 (gR_eq ex10) dX1_addWork_25 ?_
  obtain ⟨b11, eb11, hf⟩ := oB hf
  obtain ⟨rb11, _, kb11⟩ := aIs_eq eb11
  obtain ⟨x12, ex12, hf⟩ := oB hf
  refine v_call (pc := 28) (d_V (pc := 28) C (As := []) (rest := []) rb11 kb11 nt_15 q375 yi_J2_size_java_util_ArrayList yk_J2_size rfl (by decide) (by decide) (Nat.le_trans aw_0 (by decide)) rfl (mJ2_size C.st ex12) dX1_addWork_28) ?_
  refine v_bipush (pc := 31) (v := (10 : Int32)) C dX1_addWork_31 rfl ?_
  refine v_icmp_ge (pc := 33) (tgt := 40) C dX1_addWork_33 rfl (fun hc => ?_) (fun hc => ?_)
  · simp only [if_pos hc] at hf
    refine v_iconst (pc := 40) (v := (0 : Int32)) C dX1_addWork_40 rfl ?_
    exact V.sub [1, 3, 4, 0] rfl (vX1_addWork_p41 X hf)
  · simp only [if_neg hc] at hf
    refine v_iconst (pc := 36) (v := (1 : Int32)) C dX1_addWork_36 rfl ?_
    refine v_goto (pc := 37) (tgt := 41) C dX1_addWork_37 rfl ?_
    exact V.sub [1, 3, 4, 0] rfl (vX1_addWork_p41 X hf)
theorem mX1_addWork {l : Launch} {D : aD} {h : aH} {a0 : Option Nat} {a1 : Int32} {a2 : Int32} {a3 : Int32} {q : Nat ⊕ Int32} {g : aH} (hst : l.stackTraces = false) (hf : fX1_addWork D h a0 a1 a2 a3 = some (q, g)) : aM l D yX1_addWork cX1_addWork 5 (some .int) 8 152 [va_rf a0, .int a1, .int a2, .int a3] h (wI q, g) :=
  aM.ofX [(false, va_rf a0), (false, .int a1), (false, .int a2), (false, .int a3)] rfl (ap_r (ap_c rfl (ap_c rfl (ap_c rfl ap_0)))) (by decide +kernel) hst (al_of (aw_r (aw_i (aw_i (aw_i aw_0)))) (by decide)) fun p e s m args below meth c X => V.sub (lv' := [(0, false, va_rf a0), (1, false, .int a1), (2, false, .int a2), (3, false, .int a3)]) [0, 1, 2, 3] rfl (vX1_addWork X hf)
def fX1_setLoad (D : aD) (h : aH) (a0 : Option Nat) (a1 : Int32) (a2 : Int32) : Option ((Nat ⊕ Int32) × aH) :=
  (aIs h 0 a0).bind fun _ =>
  bndT (fX1_panel D h a0 a1) fun x2 h3 =>
  bndT (fX1_in D h3 a2 (0 : Int32) (1000 : Int32)) fun x5 h6 =>
  (gI h6 2 11 x2).bind fun x7 =>
  (pF D h6 2 11 x2 (.int a2)).bind fun h8 =>
  some (.inr x7, h8)
theorem vX1_setLoad {h : aH} {a0 : Option Nat} {a1 : Int32} {a2 : Int32} {q : Nat ⊕ Int32} {g : aH} (X : aX p l R s m meth c D n0 s0 yX1_setLoad cX1_setLoad 8 124 5 (some .int) h0) (hf : fX1_setLoad D h a0 a1 a2 = some (q, g)) : V p l e R s m args below meth c D n0 s0 (aEnd D below args s h0 (wI q, g)) h 0 [(0, false, va_rf a0), (1, false, .int a1), (2, false, .int a2)] [] := by
  have C := X.1
  unfold fX1_setLoad at hf
  refine v_aload_n (pc := 0) (j := 0) C dX1_setLoad_0 rfl rfl ?_
  refine v_iload_n (pc := 1) (j := 1) C dX1_setLoad_1 rfl rfl ?_
  obtain ⟨b1, eb1, hf⟩ := oB hf
  obtain ⟨rb1, _, kb1⟩ := aIs_eq eb1
  rcases bndT_eq hf with ⟨_, _, ex2, qx2⟩ | ⟨x2, h3, ex2, hf⟩
  · cases qx2; exact v_ofDx (pc := 2) C X.2.1 X.2.2.1 rfl X.2.2.2.2.1 (d_V (pc := 2) C (As := [.int a1]) (rest := []) rb1 kb1 nt_0 q1705 yi_X1_panel_FigureSurvey yk_X1_panel rfl (by decide) (by decide) (Nat.le_trans aw_0 (by decide)) rfl (mX1_panel C.st ex2) dX1_setLoad_2)
  refine v_call (pc := 2) (d_V (pc := 2) C (As := [.int a1]) (rest := []) rb1 kb1 nt_0 q1705 yi_X1_panel_FigureSurvey yk_X1_panel rfl (by decide) (by decide) (Nat.le_trans aw_0 (by decide)) rfl (mX1_panel C.st ex2) dX1_setLoad_2) ?_
  refine v_astore_n (pc := 5) (lv' := [(3, false, va_rf x2), (0, false, va_rf a0), (1, false, .int a1), (2, false, .int a2)]) C dX1_setLoad_5 rfl (by decide) rfl ?_
  refine v_iload_n (pc := 6) (j := 3) C dX1_setLoad_6 rfl rfl ?_
  refine v_iconst (pc := 7) (v := (0 : Int32)) C dX1_setLoad_7 rfl ?_
  refine v_sipush (pc := 8) (v := (1000 : Int32)) C dX1_setLoad_8 rfl ?_
  rcases bndT_eq hf with ⟨_, _, ex5, qx5⟩ | ⟨x5, h6, ex5, hf⟩
  · cases qx5; exact v_ofDx (pc := 11) C X.2.1 X.2.2.1 rfl X.2.2.2.2.1 (d_S (pc := 11) C (As := [.int a2, .int (0 : Int32), .int (1000 : Int32)]) (rest := []) q1578 q1579 yk_X1_in rfl (by decide) (by decide) (Nat.le_trans aw_0 (by decide)) rfl (mX1_in C.st ex5) dX1_setLoad_11)
  refine v_call (pc := 11) (d_S (pc := 11) C (As := [.int a2, .int (0 : Int32), .int (1000 : Int32)]) (rest := []) q1578 q1579 yk_X1_in rfl (by decide) (by decide) (Nat.le_trans aw_0 (by decide)) rfl (mX1_in C.st ex5) dX1_setLoad_11) ?_
  refine v_pop (pc := 14) C dX1_setLoad_14 rfl ?_
  refine v_aload_n (pc := 15) (j := 0) C dX1_setLoad_15 rfl rfl ?_
  obtain ⟨x7, ex7, hf⟩ := oB hf
  refine v_getF (pc := 16) C lk_X1_482 (gI_eq ex7) dX1_setLoad_16 ?_
  refine v_istore (pc := 19) (lv' := [(4, false, .int x7), (3, false, va_rf x2), (0, false, va_rf a0), (1, false, .int a1), (2, false, .int a2)]) C dX1_setLoad_19 (by decide) rfl ?_
  refine v_aload_n (pc := 21) (j := 1) C dX1_setLoad_21 rfl rfl ?_
  refine v_iload_n (pc := 22) (j := 4) C dX1_setLoad_22 rfl rfl ?_
  obtain ⟨h8, eh8, hf⟩ := oB hf
  refine v_putF (pc := 23) C lk_X1_482 tyX3 tyX3_ok nmX3 (tyX3_ok 11 (by decide)) rfl rfl eh8 dX1_setLoad_23 ?_
  refine v_iload (pc := 26) (j := 0) C dX1_setLoad_26 rfl ?_
  cases hf
  exact v_ireturn (pc := 28) C X.2.1 X.2.2.1 X.2.2.2.1 rfl dX1_setLoad_28
theorem mX1_setLoad {l : Launch} {D : aD} {h : aH} {a0 : Option Nat} {a1 : Int32} {a2 : Int32} {q : Nat ⊕ Int32} {g : aH} (hst : l.stackTraces = false) (hf : fX1_setLoad D h a0 a1 a2 = some (q, g)) : aM l D yX1_setLoad cX1_setLoad 5 (some .int) 8 124 [va_rf a0, .int a1, .int a2] h (wI q, g) :=
  aM.ofX [(false, va_rf a0), (false, .int a1), (false, .int a2)] rfl (ap_r (ap_c rfl (ap_c rfl ap_0))) (by decide +kernel) hst (al_of (aw_r (aw_i (aw_i aw_0))) (by decide)) fun p e s m args below meth c X => V.sub (lv' := [(0, false, va_rf a0), (1, false, .int a1), (2, false, .int a2)]) [0, 1, 2] rfl (vX1_setLoad X hf)
def fX1_tour_p41 (D : aD) (h : aH) (a2 : Int32) (a3 : Option Nat) (t0 : Int32) : Option ((Nat ⊕ Int32) × aH) :=
  bndT (fX1_must D h t0) fun _ h3 =>
  (gI h3 2 12 a3).bind fun x4 =>
  (pF D h3 2 12 a3 (.int (x4 + a2))).bind fun h5 =>
  (gI h5 2 10 a3).bind fun x6 =>
  (fJ11_max D h5 (0 : Int32) (x6 - (a2 / (50 : Int32)))).bind fun x8 =>
  (pF D h5 2 10 a3 (.int x8)).bind fun h10 =>
  (gI h10 2 11 a3).bind fun x11 =>
  (gI h10 2 12 a3).bind fun x12 =>
  some (.inr (x11 - x12), h10)
theorem vX1_tour_p41 {h : aH} {a2 : Int32} {a3 : Option Nat} {t0 : Int32} {q : Nat ⊕ Int32} {g : aH} (X : aX p l R s m meth c D n0 s0 yX1_tour cX1_tour 8 124 4 (some .int) h0) (hf : fX1_tour_p41 D h a2 a3 t0 = some (q, g)) : V p l e R s m args below meth c D n0 s0 (aEnd D below args s h0 (wI q, g)) h 41 [(2, false, .int a2), (3, false, va_rf a3)] [.int t0] := by
  have C := X.1
  unfold fX1_tour_p41 at hf
  rcases bndT_eq hf with ⟨_, _, ex2, qx2⟩ | ⟨x2, h3, ex2, hf⟩
  · cases qx2; exact v_ofDx (pc := 41) C X.2.1 X.2.2.1 rfl X.2.2.2.2.1 (d_S (pc := 41) C (As := [.int t0]) (rest := []) q1595 q1596 yk_X1_must rfl (by decide) (by decide) (Nat.le_trans aw_0 (by decide)) rfl (mX1_must C.st ex2) dX1_tour_41)
  refine v_callU (pc := 41) (d_S (pc := 41) C (As := [.int t0]) (rest := []) q1595 q1596 yk_X1_must rfl (by decide) (by decide) (Nat.le_trans aw_0 (by decide)) rfl (mX1_must C.st ex2) dX1_tour_41) ?_
  refine v_aload_n (pc := 44) (j := 1) C dX1_tour_44 rfl rfl ?_
  refine v_dup (pc := 45) C dX1_tour_45 (va_rfc _) ?_
  obtain ⟨x4, ex4, hf⟩ := oB hf
  refine v_getF (pc := 46) C lk_X1_446 (gI_eq ex4) dX1_tour_46 ?_
  refine v_iload_n (pc := 49) (j := 0) C dX1_tour_49 rfl rfl ?_
  refine v_iadd (pc := 50) C dX1_tour_50 ?_
  obtain ⟨h5, eh5, hf⟩ := oB hf
  refine v_putF (pc := 51) C lk_X1_446 tyX3 tyX3_ok nmX3 (tyX3_ok 12 (by decide)) rfl rfl eh5 dX1_tour_51 ?_
  refine v_aload_n (pc := 54) (j := 1) C dX1_tour_54 rfl rfl ?_
  refine v_iconst (pc := 55) (v := (0 : Int32)) C dX1_tour_55 rfl ?_
  refine v_aload_n (pc := 56) (j := 1) C dX1_tour_56 rfl rfl ?_
  obtain ⟨x6, ex6, hf⟩ := oB hf
  refine v_getF (pc := 57) C lk_X1_437 (gI_eq ex6) dX1_tour_57 ?_
  refine v_iload_n (pc := 60) (j := 0) C dX1_tour_60 rfl rfl ?_
  refine v_bipush (pc := 61) (v := (50 : Int32)) C dX1_tour_61 rfl ?_
  refine v_idiv (pc := 63) C dX1_tour_63 (by decide) ?_
  refine v_isub (pc := 64) C dX1_tour_64 ?_
  obtain ⟨x8, ex8, hf⟩ := oB hf
  refine v_call (pc := 65) (d_S (pc := 65) C (As := [.int (0 : Int32), .int (x6 - (a2 / (50 : Int32)))]) (rest := [va_rf a3]) q2318 q424 yk_J11_max rfl (by decide) (by decide) (Nat.le_trans (aw_r aw_0) (by decide)) rfl (mJ11_max C.st ex8) dX1_tour_65) ?_
  obtain ⟨h10, eh10, hf⟩ := oB hf
  refine v_putF (pc := 68) C lk_X1_437 tyX3 tyX3_ok nmX3 (tyX3_ok 10 (by decide)) rfl rfl eh10 dX1_tour_68 ?_
  refine v_aload_n (pc := 71) (j := 1) C dX1_tour_71 rfl rfl ?_
  obtain ⟨x11, ex11, hf⟩ := oB hf
  refine v_getF (pc := 72) C lk_X1_482 (gI_eq ex11) dX1_tour_72 ?_
  refine v_aload_n (pc := 75) (j := 1) C dX1_tour_75 rfl rfl ?_
  obtain ⟨x12, ex12, hf⟩ := oB hf
  refine v_getF (pc := 76) C lk_X1_446 (gI_eq ex12) dX1_tour_76 ?_
  refine v_isub (pc := 79) C dX1_tour_79 ?_
  cases hf
  exact v_ireturn (pc := 80) C X.2.1 X.2.2.1 X.2.2.2.1 rfl dX1_tour_80
def fX1_tour (D : aD) (h : aH) (a0 : Option Nat) (a1 : Int32) (a2 : Int32) : Option ((Nat ⊕ Int32) × aH) :=
  (aIs h 0 a0).bind fun _ =>
  bndT (fX1_panel D h a0 a1) fun x2 h3 =>
  bndT (fX1_in D h3 a2 (1 : Int32) (200 : Int32)) fun x5 h6 =>
  (aIs h6 0 a0).bind fun _ =>
  (fX1_isDrowned D h6 a0 x2).bind fun x8 =>
  if x8 = 0 then
  ((gI h6 2 12 x2).bind fun x10 =>
  (gI h6 2 11 x2).bind fun x11 =>
  fX1_tour_p41 D h6 a2 x2 (if x11 < (x10 + a2) then (0 : Int32) else (1 : Int32)))
  else
  (fX1_tour_p41 D h6 a2 x2 (0 : Int32))
theorem vX1_tour {h : aH} {a0 : Option Nat} {a1 : Int32} {a2 : Int32} {q : Nat ⊕ Int32} {g : aH} (X : aX p l R s m meth c D n0 s0 yX1_tour cX1_tour 8 124 4 (some .int) h0) (hf : fX1_tour D h a0 a1 a2 = some (q, g)) : V p l e R s m args below meth c D n0 s0 (aEnd D below args s h0 (wI q, g)) h 0 [(0, false, va_rf a0), (1, false, .int a1), (2, false, .int a2)] [] := by
  have C := X.1
  unfold fX1_tour at hf
  refine v_aload_n (pc := 0) (j := 0) C dX1_tour_0 rfl rfl ?_
  refine v_iload_n (pc := 1) (j := 1) C dX1_tour_1 rfl rfl ?_
  obtain ⟨b1, eb1, hf⟩ := oB hf
  obtain ⟨rb1, _, kb1⟩ := aIs_eq eb1
  rcases bndT_eq hf with ⟨_, _, ex2, qx2⟩ | ⟨x2, h3, ex2, hf⟩
  · cases qx2; exact v_ofDx (pc := 2) C X.2.1 X.2.2.1 rfl X.2.2.2.2.1 (d_V (pc := 2) C (As := [.int a1]) (rest := []) rb1 kb1 nt_0 q1705 yi_X1_panel_FigureSurvey yk_X1_panel rfl (by decide) (by decide) (Nat.le_trans aw_0 (by decide)) rfl (mX1_panel C.st ex2) dX1_tour_2)
  refine v_call (pc := 2) (d_V (pc := 2) C (As := [.int a1]) (rest := []) rb1 kb1 nt_0 q1705 yi_X1_panel_FigureSurvey yk_X1_panel rfl (by decide) (by decide) (Nat.le_trans aw_0 (by decide)) rfl (mX1_panel C.st ex2) dX1_tour_2) ?_
  refine v_astore_n (pc := 5) (lv' := [(3, false, va_rf x2), (0, false, va_rf a0), (1, false, .int a1), (2, false, .int a2)]) C dX1_tour_5 rfl (by decide) rfl ?_
  refine v_iload_n (pc := 6) (j := 3) C dX1_tour_6 rfl rfl ?_
  refine v_iconst (pc := 7) (v := (1 : Int32)) C dX1_tour_7 rfl ?_
  refine v_sipush (pc := 8) (v := (200 : Int32)) C dX1_tour_8 rfl ?_
  rcases bndT_eq hf with ⟨_, _, ex5, qx5⟩ | ⟨x5, h6, ex5, hf⟩
  · cases qx5; exact v_ofDx (pc := 11) C X.2.1 X.2.2.1 rfl X.2.2.2.2.1 (d_S (pc := 11) C (As := [.int a2, .int (1 : Int32), .int (200 : Int32)]) (rest := []) q1578 q1579 yk_X1_in rfl (by decide) (by decide) (Nat.le_trans aw_0 (by decide)) rfl (mX1_in C.st ex5) dX1_tour_11)
  refine v_call (pc := 11) (d_S (pc := 11) C (As := [.int a2, .int (1 : Int32), .int (200 : Int32)]) (rest := []) q1578 q1579 yk_X1_in rfl (by decide) (by decide) (Nat.le_trans aw_0 (by decide)) rfl (mX1_in C.st ex5) dX1_tour_11) ?_
  refine v_pop (pc := 14) C dX1_tour_14 rfl ?_
  refine v_aload_n (pc := 15) (j := 1) C dX1_tour_15 rfl rfl ?_
  refine v_aload_n (pc := 16) (j := 0) C dX1_tour_16 rfl rfl ?_
  obtain ⟨b7, eb7, hf⟩ := oB hf
  obtain ⟨rb7, _, kb7⟩ := aIs_eq eb7
  obtain ⟨x8, ex8, hf⟩ := oB hf
  refine v_call (pc := 17) (d_V (pc := 17) C (As := [va_rf x2]) (rest := []) rb7 kb7 nt_0 q398 yi_X1_isDrowned_FigureSurvey yk_X1_isDrowned rfl (by decide) (by decide) (Nat.le_trans aw_0 (by decide)) rfl (mX1_isDrowned C.st ex8) dX1_tour_17) ?_
  refine v_if_ne (pc := 20) (tgt := 40) C dX1_tour_20 rfl (fun hc => ?_) (fun hc => ?_)
  · rw [if_neg hc] at hf
    refine v_iconst (pc := 40) (v := (0 : Int32)) C dX1_tour_40 rfl ?_
    exact V.sub [3, 0] rfl (vX1_tour_p41 X hf)
  · rw [if_pos (Decidable.of_not_not hc)] at hf
    refine v_aload_n (pc := 23) (j := 0) C dX1_tour_23 rfl rfl ?_
    obtain ⟨x10, ex10, hf⟩ := oB hf
    refine v_getF (pc := 24) C lk_X1_446 (gI_eq ex10) dX1_tour_24 ?_
    refine v_iload_n (pc := 27) (j := 3) C dX1_tour_27 rfl rfl ?_
    refine v_iadd (pc := 28) C dX1_tour_28 ?_
    refine v_aload_n (pc := 29) (j := 0) C dX1_tour_29 rfl rfl ?_
    obtain ⟨x11, ex11, hf⟩ := oB hf
    refine v_getF (pc := 30) C lk_X1_482 (gI_eq ex11) dX1_tour_30 ?_
    refine v_icmp_gt (pc := 33) (tgt := 40) C dX1_tour_33 rfl (fun hc => ?_) (fun hc => ?_)
    · simp only [if_pos hc] at hf
      refine v_iconst (pc := 40) (v := (0 : Int32)) C dX1_tour_40 rfl ?_
      exact V.sub [3, 0] rfl (vX1_tour_p41 X hf)
    · simp only [if_neg hc] at hf
      refine v_iconst (pc := 36) (v := (1 : Int32)) C dX1_tour_36 rfl ?_
      refine v_goto (pc := 37) (tgt := 41) C dX1_tour_37 rfl ?_
      exact V.sub [3, 0] rfl (vX1_tour_p41 X hf)
theorem mX1_tour {l : Launch} {D : aD} {h : aH} {a0 : Option Nat} {a1 : Int32} {a2 : Int32} {q : Nat ⊕ Int32} {g : aH} (hst : l.stackTraces = false) (hf : fX1_tour D h a0 a1 a2 = some (q, g)) : aM l D yX1_tour cX1_tour 4 (some .int) 8 124 [va_rf a0, .int a1, .int a2] h (wI q, g) :=
  aM.ofX [(false, va_rf a0), (false, .int a1), (false, .int a2)] rfl (ap_r (ap_c rfl (ap_c rfl ap_0))) (by decide +kernel) hst (al_of (aw_r (aw_i (aw_i aw_0))) (by decide)) fun p e s m args below meth c X => V.sub (lv' := [(0, false, va_rf a0), (1, false, .int a1), (2, false, .int a2)]) [0, 1, 2] rfl (vX1_tour X hf)
def fX1_lambda_tellDam_3 (D : aD) (h : aH) (a0 : Option Nat) (a1 : Int32) : Option (Int32) :=
  (gR h 0 1 a0).bind fun x1 =>
  (aIs h 15 x1).bind fun _ =>
  (fJ2_get D h x1 a1).bind fun x3 =>
  (aCast h [2] x3).bind fun _ =>
  (aIs h 0 a0).bind fun _ =>
  (fX1_isLow D h a0 x3).bind fun x7 =>
  (ckZ x7).bind fun _ =>
  some x7
theorem vX1_lambda_tellDam_3 {h : aH} {a0 : Option Nat} {a1 : Int32} {q : Int32} (X : aX p l R s m meth c D n0 s0 yX1_lambda_tellDam_3 cX1_lambda_tellDam_3 3 64 2 (some .boolean) h0) (hf : fX1_lambda_tellDam_3 D h a0 a1 = some q) : V p l e R s m args below meth c D n0 s0 (aEnd D below args s h0 (.inr (some (.int q)), h)) h 0 [(0, false, va_rf a0), (1, false, .int a1)] [] := by
  have C := X.1
  unfold fX1_lambda_tellDam_3 at hf
  refine v_aload_n (pc := 0) (j := 0) C dX1_lambda_tellDam_3_0 rfl rfl ?_
  refine v_aload_n (pc := 1) (j := 0) C dX1_lambda_tellDam_3_1 rfl rfl ?_
  obtain ⟨x1, ex1, hf⟩ := oB hf
  refine v_getF (pc := 2) C lk_X1_49 (gR_eq ex1) dX1_lambda_tellDam_3_2 ?_
  refine v_iload_n (pc := 5) (j := 1) C dX1_lambda_tellDam_3_5 rfl rfl ?_
  obtain ⟨b2, eb2, hf⟩ := oB hf
  obtain ⟨rb2, _, kb2⟩ := aIs_eq eb2
  obtain ⟨x3, ex3, hf⟩ := oB hf
  refine v_call (pc := 6) (d_V (pc := 6) C (As := [.int a1]) (rest := [va_rf a0]) rb2 kb2 nt_15 q379 yi_J2_get_java_util_ArrayList yk_J2_get rfl (by decide) (by decide) (Nat.le_trans (aw_r aw_0) (by decide)) rfl (mJ2_get C.st ex3) dX1_lambda_tellDam_3_6) ?_
  obtain ⟨_, e5, hf⟩ := oB hf
  refine v_cast (pc := 9) C q393 ct_FigureSurvey_Panel e5 dX1_lambda_tellDam_3_9 ?_
  obtain ⟨b6, eb6, hf⟩ := oB hf
  obtain ⟨rb6, _, kb6⟩ := aIs_eq eb6
  obtain ⟨x7, ex7, hf⟩ := oB hf
  refine v_call (pc := 12) (d_V (pc := 12) C (As := [va_rf x3]) (rest := []) rb6 kb6 nt_0 q394 yi_X1_isLow_FigureSurvey yk_X1_isLow rfl (by decide) (by decide) (Nat.le_trans aw_0 (by decide)) rfl (mX1_isLow C.st ex7) dX1_lambda_tellDam_3_12) ?_
  obtain ⟨_, e9, hf⟩ := oB hf
  cases hf
  exact v_zreturn (pc := 15) C X.2.1 X.2.2.1 X.2.2.2.1 (ckZ_eq e9) rfl dX1_lambda_tellDam_3_15
theorem mX1_lambda_tellDam_3 {l : Launch} {D : aD} {h : aH} {a0 : Option Nat} {a1 : Int32} {q : Int32} (hst : l.stackTraces = false) (hf : fX1_lambda_tellDam_3 D h a0 a1 = some q) : aM l D yX1_lambda_tellDam_3 cX1_lambda_tellDam_3 2 (some .boolean) 3 64 [va_rf a0, .int a1] h (.inr (some (.int q)), h) :=
  aM.ofX [(false, va_rf a0), (false, .int a1)] rfl (ap_r (ap_c rfl ap_0)) (by decide +kernel) hst (al_of (aw_r (aw_i aw_0)) (by decide)) fun p e s m args below meth c X => V.sub (lv' := [(0, false, va_rf a0), (1, false, .int a1)]) [0, 1] rfl (vX1_lambda_tellDam_3 X hf)
def fX1_isDrowned_2 (D : aD) (h : aH) (a0 : Option Nat) (a1 : Int32) : Option ((Nat ⊕ Int32) × aH) :=
  (aIs h 0 a0).bind fun _ =>
  bndT (fX1_panel D h a0 a1) fun x2 h3 =>
  (aIs h3 0 a0).bind fun _ =>
  (fX1_isDrowned D h3 a0 x2).bind fun x5 =>
  (ckZ x5).bind fun _ =>
  some (.inr x5, h3)
theorem vX1_isDrowned_2 {h : aH} {a0 : Option Nat} {a1 : Int32} {q : Nat ⊕ Int32} {g : aH} (X : aX p l R s m meth c D n0 s0 yX1_isDrowned_2 cX1_isDrowned_2 8 124 2 (some .boolean) h0) (hf : fX1_isDrowned_2 D h a0 a1 = some (q, g)) : V p l e R s m args below meth c D n0 s0 (aEnd D below args s h0 (wI q, g)) h 0 [(0, false, va_rf a0), (1, false, .int a1)] [] := by
  have C := X.1
  unfold fX1_isDrowned_2 at hf
  refine v_aload_n (pc := 0) (j := 0) C dX1_isDrowned_2_0 rfl rfl ?_
  refine v_aload_n (pc := 1) (j := 0) C dX1_isDrowned_2_1 rfl rfl ?_
  refine v_iload_n (pc := 2) (j := 1) C dX1_isDrowned_2_2 rfl rfl ?_
  obtain ⟨b1, eb1, hf⟩ := oB hf
  obtain ⟨rb1, _, kb1⟩ := aIs_eq eb1
  rcases bndT_eq hf with ⟨_, _, ex2, qx2⟩ | ⟨x2, h3, ex2, hf⟩
  · cases qx2; exact v_ofDx (pc := 3) C X.2.1 X.2.2.1 rfl X.2.2.2.2.1 (d_V (pc := 3) C (As := [.int a1]) (rest := [va_rf a0]) rb1 kb1 nt_0 q1705 yi_X1_panel_FigureSurvey yk_X1_panel rfl (by decide) (by decide) (Nat.le_trans (aw_r aw_0) (by decide)) rfl (mX1_panel C.st ex2) dX1_isDrowned_2_3)
  refine v_call (pc := 3) (d_V (pc := 3) C (As := [.int a1]) (rest := [va_rf a0]) rb1 kb1 nt_0 q1705 yi_X1_panel_FigureSurvey yk_X1_panel rfl (by decide) (by decide) (Nat.le_trans (aw_r aw_0) (by decide)) rfl (mX1_panel C.st ex2) dX1_isDrowned_2_3) ?_
  obtain ⟨b4, eb4, hf⟩ := oB hf
  obtain ⟨rb4, _, kb4⟩ := aIs_eq eb4
  obtain ⟨x5, ex5, hf⟩ := oB hf
  refine v_call (pc := 6) (d_V (pc := 6) C (As := [va_rf x2]) (rest := []) rb4 kb4 nt_0 q398 yi_X1_isDrowned_FigureSurvey yk_X1_isDrowned rfl (by decide) (by decide) (Nat.le_trans aw_0 (by decide)) rfl (mX1_isDrowned C.st ex5) dX1_isDrowned_2_6) ?_
  obtain ⟨_, e7, hf⟩ := oB hf
  cases hf
  exact v_zreturn (pc := 9) C X.2.1 X.2.2.1 X.2.2.2.1 (ckZ_eq e7) rfl dX1_isDrowned_2_9
theorem mX1_isDrowned_2 {l : Launch} {D : aD} {h : aH} {a0 : Option Nat} {a1 : Int32} {q : Nat ⊕ Int32} {g : aH} (hst : l.stackTraces = false) (hf : fX1_isDrowned_2 D h a0 a1 = some (q, g)) : aM l D yX1_isDrowned_2 cX1_isDrowned_2 2 (some .boolean) 8 124 [va_rf a0, .int a1] h (wI q, g) :=
  aM.ofX [(false, va_rf a0), (false, .int a1)] rfl (ap_r (ap_c rfl ap_0)) (by decide +kernel) hst (al_of (aw_r (aw_i aw_0)) (by decide)) fun p e s m args below meth c X => V.sub (lv' := [(0, false, va_rf a0), (1, false, .int a1)]) [0, 1] rfl (vX1_isDrowned_2 X hf)
def fX0_addPanel (D : aD) (h : aH) (a0 : Option Nat) (a1 : Int32) (a2 : Option Nat) : Option (Int32 × aH) :=
  (aIs h 0 a0).bind fun _ =>
  bndW (fX1_addPanel D h a0 a1) (fun k => if k = 2 then some (1 : Int32) else if k = 3 then some (2 : Int32) else none) fun x2 h3 =>
  (sF D h3 101 a2 (0 : Int32) (.long x2.toInt64)).bind fun h4 =>
  some ((0 : Int32), h4)
theorem vX0_addPanel {h : aH} {a0 : Option Nat} {a1 : Int32} {a2 : Option Nat} {q : Int32} {g : aH} (X : aXw p l R s m meth c D n0 s0 yX0_addPanel cX0_addPanel 8 173 4 [(0, 9, 12, 13), (0, 9, 15, 15)] h) (hf : fX0_addPanel D h a0 a1 a2 = some (q, g)) : V p l e R s m args below meth c D n0 s0 (aEndw D below args s h q g) h 0 [(0, false, va_rf a0), (1, false, .int a1), (2, false, va_rf a2)] [] := by
  have C := X.1
  unfold fX0_addPanel at hf
  refine v_aload_n (pc := 0) (j := 2) C dX0_addPanel_0 rfl rfl ?_
  refine v_iconst (pc := 1) (v := (0 : Int32)) C dX0_addPanel_1 rfl ?_
  refine v_aload_n (pc := 2) (j := 0) C dX0_addPanel_2 rfl rfl ?_
  refine v_iload_n (pc := 3) (j := 1) C dX0_addPanel_3 rfl rfl ?_
  obtain ⟨b1, eb1, hf⟩ := oB hf
  obtain ⟨rb1, _, kb1⟩ := aIs_eq eb1
  rcases bndW_eq hf with ⟨kx2, cx2, gx2, ex2, hk, qx2⟩ | ⟨x2, h3, ex2, hf⟩
  · cases qx2
    by_cases k2 : kx2 = 2
    · subst k2
      rw [if_pos rfl] at hk
      cases hk
      exact v_ofDc (pc := 4) (ek := 2) X [] [(0, 9, 15, 15)] rfl (fun _ hz => by cases hz) (by decide) (by decide) q1572 q294 ⟨3, 1, 1, by decide, Or.inr ⟨3, rfl, dX0_addPanel_12, rfl⟩, dX0_addPanel_13, rfl, dX0_addPanel_14⟩ (Nat.le_refl _) (Nat.le_refl _) (d_V (pc := 4) C (As := [.int a1]) (rest := [.int (0 : Int32), va_rf a2]) rb1 kb1 nt_0 q1574 yi_X1_addPanel_FigureSurvey yk_X1_addPanel rfl (by decide) (by decide) (Nat.le_trans (aw_i (aw_r aw_0)) (by decide)) rfl (mX1_addPanel C.st ex2) dX0_addPanel_4)
    rw [if_neg k2] at hk
    by_cases k3 : kx2 = 3
    · subst k3
      rw [if_pos rfl] at hk
      cases hk
      exact v_ofDc (pc := 4) (ek := 3) X [(0, 9, 12, 13)] [] rfl (List.forall_mem_cons.mpr ⟨⟨by decide, _, q1572, by decide +kernel⟩, fun _ hz => by cases hz⟩) (by decide) (by decide) q1573 q1600 ⟨3, 1, 2, by decide, Or.inr ⟨3, rfl, dX0_addPanel_15, rfl⟩, dX0_addPanel_16, rfl, dX0_addPanel_17⟩ (Nat.le_refl _) (Nat.le_refl _) (d_V (pc := 4) C (As := [.int a1]) (rest := [.int (0 : Int32), va_rf a2]) rb1 kb1 nt_0 q1574 yi_X1_addPanel_FigureSurvey yk_X1_addPanel rfl (by decide) (by decide) (Nat.le_trans (aw_i (aw_r aw_0)) (by decide)) rfl (mX1_addPanel C.st ex2) dX0_addPanel_4)
    rw [if_neg k3] at hk
    cases hk
  refine v_call (pc := 4) (d_V (pc := 4) C (As := [.int a1]) (rest := [.int (0 : Int32), va_rf a2]) rb1 kb1 nt_0 q1574 yi_X1_addPanel_FigureSurvey yk_X1_addPanel rfl (by decide) (by decide) (Nat.le_trans (aw_i (aw_r aw_0)) (by decide)) rfl (mX1_addPanel C.st ex2) dX0_addPanel_4) ?_
  refine v_i2l (pc := 7) C dX0_addPanel_7 ?_
  obtain ⟨h4, eh4, hf⟩ := oB hf
  refine v_lastore (pc := 8) C eh4 dX0_addPanel_8 ?_
  refine v_goto (pc := 9) (tgt := 18) C dX0_addPanel_9 rfl ?_
  refine v_iconst (pc := 18) (v := (0 : Int32)) C dX0_addPanel_18 rfl ?_
  cases hf
  exact v_wret (pc := 19) X dX0_addPanel_19
theorem mX0_addPanel {l : Launch} {D : aD} {h : aH} {a0 : Option Nat} {a1 : Int32} {a2 : Option Nat} {q : Int32} {g : aH} (hst : l.stackTraces = false) (hf : fX0_addPanel D h a0 a1 a2 = some (q, g)) : aMw l D yX0_addPanel cX0_addPanel 4 [(0, 9, 12, 13), (0, 9, 15, 15)] 8 173 [va_rf a0, .int a1, va_rf a2] h q g :=
  aMw.of [(false, va_rf a0), (false, .int a1), (false, va_rf a2)] rfl (ap_r (ap_c rfl (ap_r ap_0))) (by decide +kernel) hst (al_of (aw_r (aw_i (aw_r aw_0))) (by decide)) fun p e s m args below meth c X => V.sub (lv' := [(0, false, va_rf a0), (1, false, .int a1), (2, false, va_rf a2)]) [0, 1, 2] rfl (vX0_addPanel X hf)
def fX0_setDepth (D : aD) (h : aH) (a0 : Option Nat) (a1 : Int32) (a2 : Int32) (a3 : Int32) (a4 : Option Nat) : Option (Int32 × aH) :=
  (aIs h 0 a0).bind fun _ =>
  bndW (fX1_setDepth D h a0 a1 a2 a3) (fun k => if k = 1 then some (1 : Int32) else if k = 2 then some (2 : Int32) else if k = 3 then some (3 : Int32) else none) fun x2 h3 =>
  (sF D h3 101 a4 (0 : Int32) (.long x2.toInt64)).bind fun h4 =>
  some ((0 : Int32), h4)
theorem vX0_setDepth {h : aH} {a0 : Option Nat} {a1 : Int32} {a2 : Int32} {a3 : Int32} {a4 : Option Nat} {q : Int32} {g : aH} (X : aXw p l R s m meth c D n0 s0 yX0_setDepth cX0_setDepth 9 149 6 [(0, 12, 15, 21), (0, 12, 19, 13), (0, 12, 23, 15)] h) (hf : fX0_setDepth D h a0 a1 a2 a3 a4 = some (q, g)) : V p l e R s m args below meth c D n0 s0 (aEndw D below args s h q g) h 0 [(0, false, va_rf a0), (1, false, .int a1), (2, false, .int a2), (3, false, .int a3), (4, false, va_rf a4)] [] := by
  have C := X.1
  unfold fX0_setDepth at hf
  refine v_aload (pc := 0) (j := 4) C dX0_setDepth_0 rfl ?_
  refine v_iconst (pc := 2) (v := (0 : Int32)) C dX0_setDepth_2 rfl ?_
  refine v_aload_n (pc := 3) (j := 0) C dX0_setDepth_3 rfl rfl ?_
  refine v_iload_n (pc := 4) (j := 1) C dX0_setDepth_4 rfl rfl ?_
  refine v_iload_n (pc := 5) (j := 2) C dX0_setDepth_5 rfl rfl ?_
  refine v_iload_n (pc := 6) (j := 3) C dX0_setDepth_6 rfl rfl ?_
  obtain ⟨b1, eb1, hf⟩ := oB hf
  obtain ⟨rb1, _, kb1⟩ := aIs_eq eb1
  rcases bndW_eq hf with ⟨kx2, cx2, gx2, ex2, hk, qx2⟩ | ⟨x2, h3, ex2, hf⟩
  · cases qx2
    by_cases k1 : kx2 = 1
    · subst k1
      rw [if_pos rfl] at hk
      cases hk
      exact v_ofDc (pc := 7) (ek := 1) X [] [(0, 12, 19, 13), (0, 12, 23, 15)] rfl (fun _ hz => by cases hz) (by decide) (by decide) q1677 q1714 ⟨5, 2, 1, by decide, Or.inl ⟨dX0_setDepth_15, rfl⟩, dX0_setDepth_17, rfl, dX0_setDepth_18⟩ (Nat.le_refl _) (Nat.le_refl _) (d_V (pc := 7) C (As := [.int a1, .int a2, .int a3]) (rest := [.int (0 : Int32), va_rf a4]) rb1 kb1 nt_0 q1701 yi_X1_setDepth_FigureSurvey yk_X1_setDepth rfl (by decide) (by decide) (Nat.le_trans (aw_i (aw_r aw_0)) (by decide)) rfl (mX1_setDepth C.st ex2) dX0_setDepth_7)
    rw [if_neg k1] at hk
    by_cases k2 : kx2 = 2
    · subst k2
      rw [if_pos rfl] at hk
      cases hk
      exact v_ofDc (pc := 7) (ek := 2) X [(0, 12, 15, 21)] [(0, 12, 23, 15)] rfl (List.forall_mem_cons.mpr ⟨⟨by decide, _, q1677, by decide +kernel⟩, fun _ hz => by cases hz⟩) (by decide) (by decide) q1572 q294 ⟨5, 2, 2, by decide, Or.inl ⟨dX0_setDepth_19, rfl⟩, dX0_setDepth_21, rfl, dX0_setDepth_22⟩ (Nat.le_refl _) (Nat.le_refl _) (d_V (pc := 7) C (As := [.int a1, .int a2, .int a3]) (rest := [.int (0 : Int32), va_rf a4]) rb1 kb1 nt_0 q1701 yi_X1_setDepth_FigureSurvey yk_X1_setDepth rfl (by decide) (by decide) (Nat.le_trans (aw_i (aw_r aw_0)) (by decide)) rfl (mX1_setDepth C.st ex2) dX0_setDepth_7)
    rw [if_neg k2] at hk
    by_cases k3 : kx2 = 3
    · subst k3
      rw [if_pos rfl] at hk
      cases hk
      exact v_ofDc (pc := 7) (ek := 3) X [(0, 12, 15, 21), (0, 12, 19, 13)] [] rfl (List.forall_mem_cons.mpr ⟨⟨by decide, _, q1677, by decide +kernel⟩, List.forall_mem_cons.mpr ⟨⟨by decide, _, q1572, by decide +kernel⟩, fun _ hz => by cases hz⟩⟩) (by decide) (by decide) q1573 q1600 ⟨5, 2, 3, by decide, Or.inl ⟨dX0_setDepth_23, rfl⟩, dX0_setDepth_25, rfl, dX0_setDepth_26⟩ (Nat.le_refl _) (Nat.le_refl _) (d_V (pc := 7) C (As := [.int a1, .int a2, .int a3]) (rest := [.int (0 : Int32), va_rf a4]) rb1 kb1 nt_0 q1701 yi_X1_setDepth_FigureSurvey yk_X1_setDepth rfl (by decide) (by decide) (Nat.le_trans (aw_i (aw_r aw_0)) (by decide)) rfl (mX1_setDepth C.st ex2) dX0_setDepth_7)
    rw [if_neg k3] at hk
    cases hk
  refine v_call (pc := 7) (d_V (pc := 7) C (As := [.int a1, .int a2, .int a3]) (rest := [.int (0 : Int32), va_rf a4]) rb1 kb1 nt_0 q1701 yi_X1_setDepth_FigureSurvey yk_X1_setDepth rfl (by decide) (by decide) (Nat.le_trans (aw_i (aw_r aw_0)) (by decide)) rfl (mX1_setDepth C.st ex2) dX0_setDepth_7) ?_
  refine v_i2l (pc := 10) C dX0_setDepth_10 ?_
  obtain ⟨h4, eh4, hf⟩ := oB hf
  refine v_lastore (pc := 11) C eh4 dX0_setDepth_11 ?_
  refine v_goto (pc := 12) (tgt := 27) C dX0_setDepth_12 rfl ?_
  refine v_iconst (pc := 27) (v := (0 : Int32)) C dX0_setDepth_27 rfl ?_
  cases hf
  exact v_wret (pc := 28) X dX0_setDepth_28
theorem mX0_setDepth {l : Launch} {D : aD} {h : aH} {a0 : Option Nat} {a1 : Int32} {a2 : Int32} {a3 : Int32} {a4 : Option Nat} {q : Int32} {g : aH} (hst : l.stackTraces = false) (hf : fX0_setDepth D h a0 a1 a2 a3 a4 = some (q, g)) : aMw l D yX0_setDepth cX0_setDepth 6 [(0, 12, 15, 21), (0, 12, 19, 13), (0, 12, 23, 15)] 9 149 [va_rf a0, .int a1, .int a2, .int a3, va_rf a4] h q g :=
  aMw.of [(false, va_rf a0), (false, .int a1), (false, .int a2), (false, .int a3), (false, va_rf a4)] rfl (ap_r (ap_c rfl (ap_c rfl (ap_c rfl (ap_r ap_0))))) (by decide +kernel) hst (al_of (aw_r (aw_i (aw_i (aw_i (aw_r aw_0))))) (by decide)) fun p e s m args below meth c X => V.sub (lv' := [(0, false, va_rf a0), (1, false, .int a1), (2, false, .int a2), (3, false, .int a3), (4, false, va_rf a4)]) [0, 1, 2, 3, 4] rfl (vX0_setDepth X hf)
def fX0_light (D : aD) (h : aH) (a0 : Option Nat) (a1 : Int32) (a2 : Int32) (a3 : Option Nat) : Option (Int32 × aH) :=
  (aIs h 0 a0).bind fun _ =>
  bndW (fX1_light D h a0 a1 a2) (fun k => if k = 1 then some (1 : Int32) else if k = 2 then some (2 : Int32) else if k = 3 then some (3 : Int32) else none) fun x2 h3 =>
  (sF D h3 101 a3 (0 : Int32) (.long x2.toInt64)).bind fun h4 =>
  some ((0 : Int32), h4)
theorem vX0_light {h : aH} {a0 : Option Nat} {a1 : Int32} {a2 : Int32} {a3 : Option Nat} {q : Int32} {g : aH} (X : aXw p l R s m meth c D n0 s0 yX0_light cX0_light 9 147 5 [(0, 10, 13, 21), (0, 10, 17, 13), (0, 10, 21, 15)] h) (hf : fX0_light D h a0 a1 a2 a3 = some (q, g)) : V p l e R s m args below meth c D n0 s0 (aEndw D below args s h q g) h 0 [(0, false, va_rf a0), (1, false, .int a1), (2, false, .int a2), (3, false, va_rf a3)] [] := by
  have C := X.1
  unfold fX0_light at hf
  refine v_aload_n (pc := 0) (j := 3) C dX0_light_0 rfl rfl ?_
  refine v_iconst (pc := 1) (v := (0 : Int32)) C dX0_light_1 rfl ?_
  refine v_aload_n (pc := 2) (j := 0) C dX0_light_2 rfl rfl ?_
  refine v_iload_n (pc := 3) (j := 1) C dX0_light_3 rfl rfl ?_
  refine v_iload_n (pc := 4) (j := 2) C dX0_light_4 rfl rfl ?_
  obtain ⟨b1, eb1, hf⟩ := oB hf
  obtain ⟨rb1, _, kb1⟩ := aIs_eq eb1
  rcases bndW_eq hf with ⟨kx2, cx2, gx2, ex2, hk, qx2⟩ | ⟨x2, h3, ex2, hf⟩
  · cases qx2
    by_cases k1 : kx2 = 1
    · subst k1
      rw [if_pos rfl] at hk
      cases hk
      exact v_ofDc (pc := 5) (ek := 1) X [] [(0, 10, 17, 13), (0, 10, 21, 15)] rfl (fun _ hz => by cases hz) (by decide) (by decide) q1677 q1714 ⟨4, 2, 1, by decide, Or.inl ⟨dX0_light_13, rfl⟩, dX0_light_15, rfl, dX0_light_16⟩ (Nat.le_refl _) (Nat.le_refl _) (d_V (pc := 5) C (As := [.int a1, .int a2]) (rest := [.int (0 : Int32), va_rf a3]) rb1 kb1 nt_0 q1728 yi_X1_light_FigureSurvey yk_X1_light rfl (by decide) (by decide) (Nat.le_trans (aw_i (aw_r aw_0)) (by decide)) rfl (mX1_light C.st ex2) dX0_light_5)
    rw [if_neg k1] at hk
    by_cases k2 : kx2 = 2
    · subst k2
      rw [if_pos rfl] at hk
      cases hk
      exact v_ofDc (pc := 5) (ek := 2) X [(0, 10, 13, 21)] [(0, 10, 21, 15)] rfl (List.forall_mem_cons.mpr ⟨⟨by decide, _, q1677, by decide +kernel⟩, fun _ hz => by cases hz⟩) (by decide) (by decide) q1572 q294 ⟨4, 2, 2, by decide, Or.inl ⟨dX0_light_17, rfl⟩, dX0_light_19, rfl, dX0_light_20⟩ (Nat.le_refl _) (Nat.le_refl _) (d_V (pc := 5) C (As := [.int a1, .int a2]) (rest := [.int (0 : Int32), va_rf a3]) rb1 kb1 nt_0 q1728 yi_X1_light_FigureSurvey yk_X1_light rfl (by decide) (by decide) (Nat.le_trans (aw_i (aw_r aw_0)) (by decide)) rfl (mX1_light C.st ex2) dX0_light_5)
    rw [if_neg k2] at hk
    by_cases k3 : kx2 = 3
    · subst k3
      rw [if_pos rfl] at hk
      cases hk
      exact v_ofDc (pc := 5) (ek := 3) X [(0, 10, 13, 21), (0, 10, 17, 13)] [] rfl (List.forall_mem_cons.mpr ⟨⟨by decide, _, q1677, by decide +kernel⟩, List.forall_mem_cons.mpr ⟨⟨by decide, _, q1572, by decide +kernel⟩, fun _ hz => by cases hz⟩⟩) (by decide) (by decide) q1573 q1600 ⟨4, 2, 3, by decide, Or.inl ⟨dX0_light_21, rfl⟩, dX0_light_23, rfl, dX0_light_24⟩ (Nat.le_refl _) (Nat.le_refl _) (d_V (pc := 5) C (As := [.int a1, .int a2]) (rest := [.int (0 : Int32), va_rf a3]) rb1 kb1 nt_0 q1728 yi_X1_light_FigureSurvey yk_X1_light rfl (by decide) (by decide) (Nat.le_trans (aw_i (aw_r aw_0)) (by decide)) rfl (mX1_light C.st ex2) dX0_light_5)
    rw [if_neg k3] at hk
    cases hk
  refine v_call (pc := 5) (d_V (pc := 5) C (As := [.int a1, .int a2]) (rest := [.int (0 : Int32), va_rf a3]) rb1 kb1 nt_0 q1728 yi_X1_light_FigureSurvey yk_X1_light rfl (by decide) (by decide) (Nat.le_trans (aw_i (aw_r aw_0)) (by decide)) rfl (mX1_light C.st ex2) dX0_light_5) ?_
  refine v_i2l (pc := 8) C dX0_light_8 ?_
  obtain ⟨h4, eh4, hf⟩ := oB hf
  refine v_lastore (pc := 9) C eh4 dX0_light_9 ?_
  refine v_goto (pc := 10) (tgt := 25) C dX0_light_10 rfl ?_
  refine v_iconst (pc := 25) (v := (0 : Int32)) C dX0_light_25 rfl ?_
  cases hf
  exact v_wret (pc := 26) X dX0_light_26
theorem mX0_light {l : Launch} {D : aD} {h : aH} {a0 : Option Nat} {a1 : Int32} {a2 : Int32} {a3 : Option Nat} {q : Int32} {g : aH} (hst : l.stackTraces = false) (hf : fX0_light D h a0 a1 a2 a3 = some (q, g)) : aMw l D yX0_light cX0_light 5 [(0, 10, 13, 21), (0, 10, 17, 13), (0, 10, 21, 15)] 9 147 [va_rf a0, .int a1, .int a2, va_rf a3] h q g :=
  aMw.of [(false, va_rf a0), (false, .int a1), (false, .int a2), (false, va_rf a3)] rfl (ap_r (ap_c rfl (ap_c rfl (ap_r ap_0)))) (by decide +kernel) hst (al_of (aw_r (aw_i (aw_i (aw_r aw_0)))) (by decide)) fun p e s m args below meth c X => V.sub (lv' := [(0, false, va_rf a0), (1, false, .int a1), (2, false, .int a2), (3, false, va_rf a3)]) [0, 1, 2, 3] rfl (vX0_light X hf)
def fX0_addStroke (D : aD) (h : aH) (a0 : Option Nat) (a1 : Int32) (a2 : Int64) (a4 : Option Nat) : Option (Int32 × aH) :=
  (aIs h 0 a0).bind fun _ =>
  bndW (fX1_addStroke D h a0 a1 a2) (fun k => if k = 1 then some (1 : Int32) else if k = 2 then some (2 : Int32) else if k = 3 then some (3 : Int32) else none) fun x2 h3 =>
  (sF D h3 101 a4 (0 : Int32) (.long x2.toInt64)).bind fun h4 =>
  some ((0 : Int32), h4)
theorem vX0_addStroke {h : aH} {a0 : Option Nat} {a1 : Int32} {a2 : Int64} {a4 : Option Nat} {q : Int32} {g : aH} (X : aXw p l R s m meth c D n0 s0 yX0_addStroke cX0_addStroke 9 176 6 [(0, 11, 14, 21), (0, 11, 18, 13), (0, 11, 22, 15)] h) (hf : fX0_addStroke D h a0 a1 a2 a4 = some (q, g)) : V p l e R s m args below meth c D n0 s0 (aEndw D below args s h q g) h 0 [(0, false, va_rf a0), (1, false, .int a1), (2, true, .long a2), (4, false, va_rf a4)] [] := by
  have C := X.1
  unfold fX0_addStroke at hf
  refine v_aload (pc := 0) (j := 3) C dX0_addStroke_0 rfl ?_
  refine v_iconst (pc := 2) (v := (0 : Int32)) C dX0_addStroke_2 rfl ?_
  refine v_aload_n (pc := 3) (j := 0) C dX0_addStroke_3 rfl rfl ?_
  refine v_iload_n (pc := 4) (j := 1) C dX0_addStroke_4 rfl rfl ?_
  refine v_lload_n (pc := 5) (j := 2) C dX0_addStroke_5 rfl rfl ?_
  obtain ⟨b1, eb1, hf⟩ := oB hf
  obtain ⟨rb1, _, kb1⟩ := aIs_eq eb1
  rcases bndW_eq hf with ⟨kx2, cx2, gx2, ex2, hk, qx2⟩ | ⟨x2, h3, ex2, hf⟩
  · cases qx2
    by_cases k1 : kx2 = 1
    · subst k1
      rw [if_pos rfl] at hk
      cases hk
      exact v_ofDc (pc := 6) (ek := 1) X [] [(0, 11, 18, 13), (0, 11, 22, 15)] rfl (fun _ hz => by cases hz) (by decide) (by decide) q1677 q1714 ⟨5, 2, 1, by decide, Or.inl ⟨dX0_addStroke_14, rfl⟩, dX0_addStroke_16, rfl, dX0_addStroke_17⟩ (Nat.le_refl _) (Nat.le_refl _) (d_V (pc := 6) C (As := [.int a1, .long a2]) (rest := [.int (0 : Int32), va_rf a4]) rb1 kb1 nt_0 q1768 yi_X1_addStroke_FigureSurvey yk_X1_addStroke rfl (by decide) (by decide) (Nat.le_trans (aw_i (aw_r aw_0)) (by decide)) rfl (mX1_addStroke C.st ex2) dX0_addStroke_6)
    rw [if_neg k1] at hk
    by_cases k2 : kx2 = 2
    · subst k2
      rw [if_pos rfl] at hk
      cases hk
      exact v_ofDc (pc := 6) (ek := 2) X [(0, 11, 14, 21)] [(0, 11, 22, 15)] rfl (List.forall_mem_cons.mpr ⟨⟨by decide, _, q1677, by decide +kernel⟩, fun _ hz => by cases hz⟩) (by decide) (by decide) q1572 q294 ⟨5, 2, 2, by decide, Or.inl ⟨dX0_addStroke_18, rfl⟩, dX0_addStroke_20, rfl, dX0_addStroke_21⟩ (Nat.le_refl _) (Nat.le_refl _) (d_V (pc := 6) C (As := [.int a1, .long a2]) (rest := [.int (0 : Int32), va_rf a4]) rb1 kb1 nt_0 q1768 yi_X1_addStroke_FigureSurvey yk_X1_addStroke rfl (by decide) (by decide) (Nat.le_trans (aw_i (aw_r aw_0)) (by decide)) rfl (mX1_addStroke C.st ex2) dX0_addStroke_6)
    rw [if_neg k2] at hk
    by_cases k3 : kx2 = 3
    · subst k3
      rw [if_pos rfl] at hk
      cases hk
      exact v_ofDc (pc := 6) (ek := 3) X [(0, 11, 14, 21), (0, 11, 18, 13)] [] rfl (List.forall_mem_cons.mpr ⟨⟨by decide, _, q1677, by decide +kernel⟩, List.forall_mem_cons.mpr ⟨⟨by decide, _, q1572, by decide +kernel⟩, fun _ hz => by cases hz⟩⟩) (by decide) (by decide) q1573 q1600 ⟨5, 2, 3, by decide, Or.inl ⟨dX0_addStroke_22, rfl⟩, dX0_addStroke_24, rfl, dX0_addStroke_25⟩ (Nat.le_refl _) (Nat.le_refl _) (d_V (pc := 6) C (As := [.int a1, .long a2]) (rest := [.int (0 : Int32), va_rf a4]) rb1 kb1 nt_0 q1768 yi_X1_addStroke_FigureSurvey yk_X1_addStroke rfl (by decide) (by decide) (Nat.le_trans (aw_i (aw_r aw_0)) (by decide)) rfl (mX1_addStroke C.st ex2) dX0_addStroke_6)
    rw [if_neg k3] at hk
    cases hk
  refine v_call (pc := 6) (d_V (pc := 6) C (As := [.int a1, .long a2]) (rest := [.int (0 : Int32), va_rf a4]) rb1 kb1 nt_0 q1768 yi_X1_addStroke_FigureSurvey yk_X1_addStroke rfl (by decide) (by decide) (Nat.le_trans (aw_i (aw_r aw_0)) (by decide)) rfl (mX1_addStroke C.st ex2) dX0_addStroke_6) ?_
  refine v_i2l (pc := 9) C dX0_addStroke_9 ?_
  obtain ⟨h4, eh4, hf⟩ := oB hf
  refine v_lastore (pc := 10) C eh4 dX0_addStroke_10 ?_
  refine v_goto (pc := 11) (tgt := 26) C dX0_addStroke_11 rfl ?_
  refine v_iconst (pc := 26) (v := (0 : Int32)) C dX0_addStroke_26 rfl ?_
  cases hf
  exact v_wret (pc := 27) X dX0_addStroke_27
theorem mX0_addStroke {l : Launch} {D : aD} {h : aH} {a0 : Option Nat} {a1 : Int32} {a2 : Int64} {a4 : Option Nat} {q : Int32} {g : aH} (hst : l.stackTraces = false) (hf : fX0_addStroke D h a0 a1 a2 a4 = some (q, g)) : aMw l D yX0_addStroke cX0_addStroke 6 [(0, 11, 14, 21), (0, 11, 18, 13), (0, 11, 22, 15)] 9 176 [va_rf a0, .int a1, .long a2, va_rf a4] h q g :=
  aMw.of [(false, va_rf a0), (false, .int a1), (true, .long a2), (false, va_rf a4)] rfl (ap_r (ap_c rfl (ap_c rfl (ap_r ap_0)))) (by decide +kernel) hst (al_of (aw_r (aw_i (aw_l (aw_r aw_0)))) (by decide)) fun p e s m args below meth c X => V.sub (lv' := [(0, false, va_rf a0), (1, false, .int a1), (2, true, .long a2), (4, false, va_rf a4)]) [0, 1, 2, 3] rfl (vX0_addStroke X hf)
def fX0_setStroke (D : aD) (h : aH) (a0 : Option Nat) (a1 : Int32) (a2 : Int32) (a3 : Int32) (a4 : Option Nat) : Option (Int32 × aH) :=
  (aIs h 0 a0).bind fun _ =>
  bndW (fX1_setStroke D h a0 a1 a2 a3) (fun k => if k = 1 then some (1 : Int32) else if k = 2 then some (2 : Int32) else if k = 3 then some (3 : Int32) else none) fun x2 h3 =>
  (sF D h3 101 a4 (0 : Int32) (.long x2.toInt64)).bind fun h4 =>
  some ((0 : Int32), h4)
theorem vX0_setStroke {h : aH} {a0 : Option Nat} {a1 : Int32} {a2 : Int32} {a3 : Int32} {a4 : Option Nat} {q : Int32} {g : aH} (X : aXw p l R s m meth c D n0 s0 yX0_setStroke cX0_setStroke 9 178 6 [(0, 12, 15, 21), (0, 12, 19, 13), (0, 12, 23, 15)] h) (hf : fX0_setStroke D h a0 a1 a2 a3 a4 = some (q, g)) : V p l e R s m args below meth c D n0 s0 (aEndw D below args s h q g) h 0 [(0, false, va_rf a0), (1, false, .int a1), (2, false, .int a2), (3, false, .int a3), (4, false, va_rf a4)] [] := by
  have C := X.1
  unfold fX0_setStroke at hf
  refine v_aload (pc := 0) (j := 4) C dX0_setStroke_0 rfl ?_
  refine v_iconst (pc := 2) (v := (0 : Int32)) C dX0_setStroke_2 rfl ?_
  refine v_aload_n (pc := 3) (j := 0) C dX0_setStroke_3 rfl rfl ?_
  refine v_iload_n (pc := 4) (j := 1) C dX0_setStroke_4 rfl rfl ?_
  refine v_iload_n (pc := 5) (j := 2) C dX0_setStroke_5 rfl rfl ?_
  refine v_iload_n (pc := 6) (j := 3) C dX0_setStroke_6 rfl rfl ?_
  obtain ⟨b1, eb1, hf⟩ := oB hf
  obtain ⟨rb1, _, kb1⟩ := aIs_eq eb1
  rcases bndW_eq hf with ⟨kx2, cx2, gx2, ex2, hk, qx2⟩ | ⟨x2, h3, ex2, hf⟩
  · cases qx2
    by_cases k1 : kx2 = 1
    · subst k1
      rw [if_pos rfl] at hk
      cases hk
      exact v_ofDc (pc := 7) (ek := 1) X [] [(0, 12, 19, 13), (0, 12, 23, 15)] rfl (fun _ hz => by cases hz) (by decide) (by decide) q1677 q1714 ⟨5, 2, 1, by decide, Or.inl ⟨dX0_setStroke_15, rfl⟩, dX0_setStroke_17, rfl, dX0_setStroke_18⟩ (Nat.le_refl _) (Nat.le_refl _) (d_V (pc := 7) C (As := [.int a1, .int a2, .int a3]) (rest := [.int (0 : Int32), va_rf a4]) rb1 kb1 nt_0 q1845 yi_X1_setStroke_FigureSurvey yk_X1_setStroke rfl (by decide) (by decide) (Nat.le_trans (aw_i (aw_r aw_0)) (by decide)) rfl (mX1_setStroke C.st ex2) dX0_setStroke_7)
    rw [if_neg k1] at hk
    by_cases k2 : kx2 = 2
    · subst k2
      rw [if_pos rfl] at hk
      cases hk
      exact v_ofDc (pc := 7) (ek := 2) X [(0, 12, 15, 21)] [(0, 12, 23, 15)] rfl (List.forall_mem_cons.mpr ⟨⟨by decide, _, q1677, by decide +kernel⟩, fun _ hz => by cases hz⟩) (by decide) (by decide) q1572 q294 ⟨5, 2, 2, by decide, Or.inl ⟨dX0_setStroke_19, rfl⟩, dX0_setStroke_21, rfl, dX0_setStroke_22⟩ (Nat.le_refl _) (Nat.le_refl _) (d_V (pc := 7) C (As := [.int a1, .int a2, .int a3]) (rest := [.int (0 : Int32), va_rf a4]) rb1 kb1 nt_0 q1845 yi_X1_setStroke_FigureSurvey yk_X1_setStroke rfl (by decide) (by decide) (Nat.le_trans (aw_i (aw_r aw_0)) (by decide)) rfl (mX1_setStroke C.st ex2) dX0_setStroke_7)
    rw [if_neg k2] at hk
    by_cases k3 : kx2 = 3
    · subst k3
      rw [if_pos rfl] at hk
      cases hk
      exact v_ofDc (pc := 7) (ek := 3) X [(0, 12, 15, 21), (0, 12, 19, 13)] [] rfl (List.forall_mem_cons.mpr ⟨⟨by decide, _, q1677, by decide +kernel⟩, List.forall_mem_cons.mpr ⟨⟨by decide, _, q1572, by decide +kernel⟩, fun _ hz => by cases hz⟩⟩) (by decide) (by decide) q1573 q1600 ⟨5, 2, 3, by decide, Or.inl ⟨dX0_setStroke_23, rfl⟩, dX0_setStroke_25, rfl, dX0_setStroke_26⟩ (Nat.le_refl _) (Nat.le_refl _) (d_V (pc := 7) C (As := [.int a1, .int a2, .int a3]) (rest := [.int (0 : Int32), va_rf a4]) rb1 kb1 nt_0 q1845 yi_X1_setStroke_FigureSurvey yk_X1_setStroke rfl (by decide) (by decide) (Nat.le_trans (aw_i (aw_r aw_0)) (by decide)) rfl (mX1_setStroke C.st ex2) dX0_setStroke_7)
    rw [if_neg k3] at hk
    cases hk
  refine v_call (pc := 7) (d_V (pc := 7) C (As := [.int a1, .int a2, .int a3]) (rest := [.int (0 : Int32), va_rf a4]) rb1 kb1 nt_0 q1845 yi_X1_setStroke_FigureSurvey yk_X1_setStroke rfl (by decide) (by decide) (Nat.le_trans (aw_i (aw_r aw_0)) (by decide)) rfl (mX1_setStroke C.st ex2) dX0_setStroke_7) ?_
  refine v_i2l (pc := 10) C dX0_setStroke_10 ?_
  obtain ⟨h4, eh4, hf⟩ := oB hf
  refine v_lastore (pc := 11) C eh4 dX0_setStroke_11 ?_
  refine v_goto (pc := 12) (tgt := 27) C dX0_setStroke_12 rfl ?_
  refine v_iconst (pc := 27) (v := (0 : Int32)) C dX0_setStroke_27 rfl ?_
  cases hf
  exact v_wret (pc := 28) X dX0_setStroke_28
theorem mX0_setStroke {l : Launch} {D : aD} {h : aH} {a0 : Option Nat} {a1 : Int32} {a2 : Int32} {a3 : Int32} {a4 : Option Nat} {q : Int32} {g : aH} (hst : l.stackTraces = false) (hf : fX0_setStroke D h a0 a1 a2 a3 a4 = some (q, g)) : aMw l D yX0_setStroke cX0_setStroke 6 [(0, 12, 15, 21), (0, 12, 19, 13), (0, 12, 23, 15)] 9 178 [va_rf a0, .int a1, .int a2, .int a3, va_rf a4] h q g :=
  aMw.of [(false, va_rf a0), (false, .int a1), (false, .int a2), (false, .int a3), (false, va_rf a4)] rfl (ap_r (ap_c rfl (ap_c rfl (ap_c rfl (ap_r ap_0))))) (by decide +kernel) hst (al_of (aw_r (aw_i (aw_i (aw_i (aw_r aw_0))))) (by decide)) fun p e s m args below meth c X => V.sub (lv' := [(0, false, va_rf a0), (1, false, .int a1), (2, false, .int a2), (3, false, .int a3), (4, false, va_rf a4)]) [0, 1, 2, 3, 4] rfl (vX0_setStroke X hf)
def fX0_cellsOf (D : aD) (h : aH) (a0 : Option Nat) (a1 : Int32) (a2 : Option Nat) : Option (Int32 × aH) :=
  (aIs h 0 a0).bind fun _ =>
  bndW (fX1_cellsOf D h a0 a1) (fun k => if k = 1 then some (1 : Int32) else none) fun x2 h3 =>
  (sF D h3 101 a2 (0 : Int32) (.long x2)).bind fun h4 =>
  some ((0 : Int32), h4)
theorem vX0_cellsOf {h : aH} {a0 : Option Nat} {a1 : Int32} {a2 : Option Nat} {q : Int32} {g : aH} (X : aXw p l R s m meth c D n0 s0 yX0_cellsOf cX0_cellsOf 9 145 4 [(0, 8, 11, 21)] h) (hf : fX0_cellsOf D h a0 a1 a2 = some (q, g)) : V p l e R s m args below meth c D n0 s0 (aEndw D below args s h q g) h 0 [(0, false, va_rf a0), (1, false, .int a1), (2, false, va_rf a2)] [] := by
  have C := X.1
  unfold fX0_cellsOf at hf
  refine v_aload_n (pc := 0) (j := 2) C dX0_cellsOf_0 rfl rfl ?_
  refine v_iconst (pc := 1) (v := (0 : Int32)) C dX0_cellsOf_1 rfl ?_
  refine v_aload_n (pc := 2) (j := 0) C dX0_cellsOf_2 rfl rfl ?_
  refine v_iload_n (pc := 3) (j := 1) C dX0_cellsOf_3 rfl rfl ?_
  obtain ⟨b1, eb1, hf⟩ := oB hf
  obtain ⟨rb1, _, kb1⟩ := aIs_eq eb1
  rcases bndW_eq hf with ⟨kx2, cx2, gx2, ex2, hk, qx2⟩ | ⟨x2, h3, ex2, hf⟩
  · cases qx2
    by_cases k1 : kx2 = 1
    · subst k1
      rw [if_pos rfl] at hk
      cases hk
      exact v_ofDc (pc := 4) (ek := 1) X [] [] rfl (fun _ hz => by cases hz) (by decide) (by decide) q1677 q1714 ⟨3, 1, 1, by decide, Or.inr ⟨3, rfl, dX0_cellsOf_11, rfl⟩, dX0_cellsOf_12, rfl, dX0_cellsOf_13⟩ (Nat.le_refl _) (Nat.le_refl _) (d_V (pc := 4) C (As := [.int a1]) (rest := [.int (0 : Int32), va_rf a2]) rb1 kb1 nt_0 q1874 yi_X1_cellsOf_FigureSurvey yk_X1_cellsOf rfl (by decide) (by decide) (Nat.le_trans (aw_i (aw_r aw_0)) (by decide)) rfl (mX1_cellsOf C.st ex2) dX0_cellsOf_4)
    rw [if_neg k1] at hk
    cases hk
  refine v_call (pc := 4) (d_V (pc := 4) C (As := [.int a1]) (rest := [.int (0 : Int32), va_rf a2]) rb1 kb1 nt_0 q1874 yi_X1_cellsOf_FigureSurvey yk_X1_cellsOf rfl (by decide) (by decide) (Nat.le_trans (aw_i (aw_r aw_0)) (by decide)) rfl (mX1_cellsOf C.st ex2) dX0_cellsOf_4) ?_
  obtain ⟨h4, eh4, hf⟩ := oB hf
  refine v_lastore (pc := 7) C eh4 dX0_cellsOf_7 ?_
  refine v_goto (pc := 8) (tgt := 14) C dX0_cellsOf_8 rfl ?_
  refine v_iconst (pc := 14) (v := (0 : Int32)) C dX0_cellsOf_14 rfl ?_
  cases hf
  exact v_wret (pc := 15) X dX0_cellsOf_15
theorem mX0_cellsOf {l : Launch} {D : aD} {h : aH} {a0 : Option Nat} {a1 : Int32} {a2 : Option Nat} {q : Int32} {g : aH} (hst : l.stackTraces = false) (hf : fX0_cellsOf D h a0 a1 a2 = some (q, g)) : aMw l D yX0_cellsOf cX0_cellsOf 4 [(0, 8, 11, 21)] 9 145 [va_rf a0, .int a1, va_rf a2] h q g :=
  aMw.of [(false, va_rf a0), (false, .int a1), (false, va_rf a2)] rfl (ap_r (ap_c rfl (ap_r ap_0))) (by decide +kernel) hst (al_of (aw_r (aw_i (aw_r aw_0))) (by decide)) fun p e s m args below meth c X => V.sub (lv' := [(0, false, va_rf a0), (1, false, .int a1), (2, false, va_rf a2)]) [0, 1, 2] rfl (vX0_cellsOf X hf)
def fX0_sharedCells (D : aD) (h : aH) (a0 : Option Nat) (a1 : Int32) (a2 : Int32) (a3 : Option Nat) : Option (Int32 × aH) :=
  (aIs h 0 a0).bind fun _ =>
  bndW (fX1_sharedCells D h a0 a1 a2) (fun k => if k = 1 then some (1 : Int32) else none) fun x2 h3 =>
  (sF D h3 101 a3 (0 : Int32) (.long x2.toInt64)).bind fun h4 =>
  some ((0 : Int32), h4)
theorem vX0_sharedCells {h : aH} {a0 : Option Nat} {a1 : Int32} {a2 : Int32} {a3 : Option Nat} {q : Int32} {g : aH} (X : aXw p l R s m meth c D n0 s0 yX0_sharedCells cX0_sharedCells 9 148 5 [(0, 10, 13, 21)] h) (hf : fX0_sharedCells D h a0 a1 a2 a3 = some (q, g)) : V p l e R s m args below meth c D n0 s0 (aEndw D below args s h q g) h 0 [(0, false, va_rf a0), (1, false, .int a1), (2, false, .int a2), (3, false, va_rf a3)] [] := by
  have C := X.1
  unfold fX0_sharedCells at hf
  refine v_aload_n (pc := 0) (j := 3) C dX0_sharedCells_0 rfl rfl ?_
  refine v_iconst (pc := 1) (v := (0 : Int32)) C dX0_sharedCells_1 rfl ?_
  refine v_aload_n (pc := 2) (j := 0) C dX0_sharedCells_2 rfl rfl ?_
  refine v_iload_n (pc := 3) (j := 1) C dX0_sharedCells_3 rfl rfl ?_
  refine v_iload_n (pc := 4) (j := 2) C dX0_sharedCells_4 rfl rfl ?_
  obtain ⟨b1, eb1, hf⟩ := oB hf
  obtain ⟨rb1, _, kb1⟩ := aIs_eq eb1
  rcases bndW_eq hf with ⟨kx2, cx2, gx2, ex2, hk, qx2⟩ | ⟨x2, h3, ex2, hf⟩
  · cases qx2
    by_cases k1 : kx2 = 1
    · subst k1
      rw [if_pos rfl] at hk
      cases hk
      exact v_ofDc (pc := 5) (ek := 1) X [] [] rfl (fun _ hz => by cases hz) (by decide) (by decide) q1677 q1714 ⟨4, 2, 1, by decide, Or.inl ⟨dX0_sharedCells_13, rfl⟩, dX0_sharedCells_15, rfl, dX0_sharedCells_16⟩ (Nat.le_refl _) (Nat.le_refl _) (d_V (pc := 5) C (As := [.int a1, .int a2]) (rest := [.int (0 : Int32), va_rf a3]) rb1 kb1 nt_0 q1890 yi_X1_sharedCells_FigureSurvey yk_X1_sharedCells rfl (by decide) (by decide) (Nat.le_trans (aw_i (aw_r aw_0)) (by decide)) rfl (mX1_sharedCells C.st ex2) dX0_sharedCells_5)
    rw [if_neg k1] at hk
    cases hk
  refine v_call (pc := 5) (d_V (pc := 5) C (As := [.int a1, .int a2]) (rest := [.int (0 : Int32), va_rf a3]) rb1 kb1 nt_0 q1890 yi_X1_sharedCells_FigureSurvey yk_X1_sharedCells rfl (by decide) (by decide) (Nat.le_trans (aw_i (aw_r aw_0)) (by decide)) rfl (mX1_sharedCells C.st ex2) dX0_sharedCells_5) ?_
  refine v_i2l (pc := 8) C dX0_sharedCells_8 ?_
  obtain ⟨h4, eh4, hf⟩ := oB hf
  refine v_lastore (pc := 9) C eh4 dX0_sharedCells_9 ?_
  refine v_goto (pc := 10) (tgt := 17) C dX0_sharedCells_10 rfl ?_
  refine v_iconst (pc := 17) (v := (0 : Int32)) C dX0_sharedCells_17 rfl ?_
  cases hf
  exact v_wret (pc := 18) X dX0_sharedCells_18
theorem mX0_sharedCells {l : Launch} {D : aD} {h : aH} {a0 : Option Nat} {a1 : Int32} {a2 : Int32} {a3 : Option Nat} {q : Int32} {g : aH} (hst : l.stackTraces = false) (hf : fX0_sharedCells D h a0 a1 a2 a3 = some (q, g)) : aMw l D yX0_sharedCells cX0_sharedCells 5 [(0, 10, 13, 21)] 9 148 [va_rf a0, .int a1, .int a2, va_rf a3] h q g :=
  aMw.of [(false, va_rf a0), (false, .int a1), (false, .int a2), (false, va_rf a3)] rfl (ap_r (ap_c rfl (ap_c rfl (ap_r ap_0)))) (by decide +kernel) hst (al_of (aw_r (aw_i (aw_i (aw_r aw_0)))) (by decide)) fun p e s m args below meth c X => V.sub (lv' := [(0, false, va_rf a0), (1, false, .int a1), (2, false, .int a2), (3, false, va_rf a3)]) [0, 1, 2, 3] rfl (vX0_sharedCells X hf)
def fX0_harm (D : aD) (h : aH) (a0 : Option Nat) (a1 : Int32) (a2 : Int64) (a4 : Option Nat) : Option (Int32 × aH) :=
  (aIs h 0 a0).bind fun _ =>
  bndW (fX1_harm D h a0 a1 a2) (fun k => if k = 1 then some (1 : Int32) else if k = 3 then some (2 : Int32) else none) fun x2 h3 =>
  (sF D h3 101 a4 (0 : Int32) (.long x2.toInt64)).bind fun h4 =>
  some ((0 : Int32), h4)
theorem vX0_harm {h : aH} {a0 : Option Nat} {a1 : Int32} {a2 : Int64} {a4 : Option Nat} {q : Int32} {g : aH} (X : aXw p l R s m meth c D n0 s0 yX0_harm cX0_harm 9 150 6 [(0, 11, 14, 21), (0, 11, 18, 15)] h) (hf : fX0_harm D h a0 a1 a2 a4 = some (q, g)) : V p l e R s m args below meth c D n0 s0 (aEndw D below args s h q g) h 0 [(0, false, va_rf a0), (1, false, .int a1), (2, true, .long a2), (4, false, va_rf a4)] [] := by
  have C := X.1
  unfold fX0_harm at hf
  refine v_aload (pc := 0) (j := 3) C dX0_harm_0 rfl ?_
  refine v_iconst (pc := 2) (v := (0 : Int32)) C dX0_harm_2 rfl ?_
  refine v_aload_n (pc := 3) (j := 0) C dX0_harm_3 rfl rfl ?_
  refine v_iload_n (pc := 4) (j := 1) C dX0_harm_4 rfl rfl ?_
  refine v_lload_n (pc := 5) (j := 2) C dX0_harm_5 rfl rfl ?_
  obtain ⟨b1, eb1, hf⟩ := oB hf
  obtain ⟨rb1, _, kb1⟩ := aIs_eq eb1
  rcases bndW_eq hf with ⟨kx2, cx2, gx2, ex2, hk, qx2⟩ | ⟨x2, h3, ex2, hf⟩
  · cases qx2
    by_cases k1 : kx2 = 1
    · subst k1
      rw [if_pos rfl] at hk
      cases hk
      exact v_ofDc (pc := 6) (ek := 1) X [] [(0, 11, 18, 15)] rfl (fun _ hz => by cases hz) (by decide) (by decide) q1677 q1714 ⟨5, 2, 1, by decide, Or.inl ⟨dX0_harm_14, rfl⟩, dX0_harm_16, rfl, dX0_harm_17⟩ (Nat.le_refl _) (Nat.le_refl _) (d_V (pc := 6) C (As := [.int a1, .long a2]) (rest := [.int (0 : Int32), va_rf a4]) rb1 kb1 nt_0 q1897 yi_X1_harm_FigureSurvey yk_X1_harm rfl (by decide) (by decide) (Nat.le_trans (aw_i (aw_r aw_0)) (by decide)) rfl (mX1_harm C.st ex2) dX0_harm_6)
    rw [if_neg k1] at hk
    by_cases k3 : kx2 = 3
    · subst k3
      rw [if_pos rfl] at hk
      cases hk
      exact v_ofDc (pc := 6) (ek := 3) X [(0, 11, 14, 21)] [] rfl (List.forall_mem_cons.mpr ⟨⟨by decide, _, q1677, by decide +kernel⟩, fun _ hz => by cases hz⟩) (by decide) (by decide) q1573 q1600 ⟨5, 2, 2, by decide, Or.inl ⟨dX0_harm_18, rfl⟩, dX0_harm_20, rfl, dX0_harm_21⟩ (Nat.le_refl _) (Nat.le_refl _) (d_V (pc := 6) C (As := [.int a1, .long a2]) (rest := [.int (0 : Int32), va_rf a4]) rb1 kb1 nt_0 q1897 yi_X1_harm_FigureSurvey yk_X1_harm rfl (by decide) (by decide) (Nat.le_trans (aw_i (aw_r aw_0)) (by decide)) rfl (mX1_harm C.st ex2) dX0_harm_6)
    rw [if_neg k3] at hk
    cases hk
  refine v_call (pc := 6) (d_V (pc := 6) C (As := [.int a1, .long a2]) (rest := [.int (0 : Int32), va_rf a4]) rb1 kb1 nt_0 q1897 yi_X1_harm_FigureSurvey yk_X1_harm rfl (by decide) (by decide) (Nat.le_trans (aw_i (aw_r aw_0)) (by decide)) rfl (mX1_harm C.st ex2) dX0_harm_6) ?_
  refine v_i2l (pc := 9) C dX0_harm_9 ?_
  obtain ⟨h4, eh4, hf⟩ := oB hf
  refine v_lastore (pc := 10) C eh4 dX0_harm_10 ?_
  refine v_goto (pc := 11) (tgt := 22) C dX0_harm_11 rfl ?_
  refine v_iconst (pc := 22) (v := (0 : Int32)) C dX0_harm_22 rfl ?_
  cases hf
  exact v_wret (pc := 23) X dX0_harm_23
theorem mX0_harm {l : Launch} {D : aD} {h : aH} {a0 : Option Nat} {a1 : Int32} {a2 : Int64} {a4 : Option Nat} {q : Int32} {g : aH} (hst : l.stackTraces = false) (hf : fX0_harm D h a0 a1 a2 a4 = some (q, g)) : aMw l D yX0_harm cX0_harm 6 [(0, 11, 14, 21), (0, 11, 18, 15)] 9 150 [va_rf a0, .int a1, .long a2, va_rf a4] h q g :=
  aMw.of [(false, va_rf a0), (false, .int a1), (true, .long a2), (false, va_rf a4)] rfl (ap_r (ap_c rfl (ap_c rfl (ap_r ap_0)))) (by decide +kernel) hst (al_of (aw_r (aw_i (aw_l (aw_r aw_0)))) (by decide)) fun p e s m args below meth c X => V.sub (lv' := [(0, false, va_rf a0), (1, false, .int a1), (2, true, .long a2), (4, false, va_rf a4)]) [0, 1, 2, 3] rfl (vX0_harm X hf)
def fX0_cast (D : aD) (h : aH) (a0 : Option Nat) (a1 : Int32) (a2 : Option Nat) : Option (Int32 × aH) :=
  (aIs h 0 a0).bind fun _ =>
  bndW (fX1_cast D h a0 a1) (fun k => if k = 1 then some (1 : Int32) else if k = 3 then some (2 : Int32) else none) fun x2 h3 =>
  (sF D h3 101 a2 (0 : Int32) (.long x2.toInt64)).bind fun h4 =>
  some ((0 : Int32), h4)
theorem vX0_cast {h : aH} {a0 : Option Nat} {a1 : Int32} {a2 : Option Nat} {q : Int32} {g : aH} (X : aXw p l R s m meth c D n0 s0 yX0_cast cX0_cast 9 149 4 [(0, 9, 12, 21), (0, 9, 15, 15)] h) (hf : fX0_cast D h a0 a1 a2 = some (q, g)) : V p l e R s m args below meth c D n0 s0 (aEndw D below args s h q g) h 0 [(0, false, va_rf a0), (1, false, .int a1), (2, false, va_rf a2)] [] := by
  have C := X.1
  unfold fX0_cast at hf
  refine v_aload_n (pc := 0) (j := 2) C dX0_cast_0 rfl rfl ?_
  refine v_iconst (pc := 1) (v := (0 : Int32)) C dX0_cast_1 rfl ?_
  refine v_aload_n (pc := 2) (j := 0) C dX0_cast_2 rfl rfl ?_
  refine v_iload_n (pc := 3) (j := 1) C dX0_cast_3 rfl rfl ?_
  obtain ⟨b1, eb1, hf⟩ := oB hf
  obtain ⟨rb1, _, kb1⟩ := aIs_eq eb1
  rcases bndW_eq hf with ⟨kx2, cx2, gx2, ex2, hk, qx2⟩ | ⟨x2, h3, ex2, hf⟩
  · cases qx2
    by_cases k1 : kx2 = 1
    · subst k1
      rw [if_pos rfl] at hk
      cases hk
      exact v_ofDc (pc := 4) (ek := 1) X [] [(0, 9, 15, 15)] rfl (fun _ hz => by cases hz) (by decide) (by decide) q1677 q1714 ⟨3, 1, 1, by decide, Or.inr ⟨3, rfl, dX0_cast_12, rfl⟩, dX0_cast_13, rfl, dX0_cast_14⟩ (Nat.le_refl _) (Nat.le_refl _) (d_V (pc := 4) C (As := [.int a1]) (rest := [.int (0 : Int32), va_rf a2]) rb1 kb1 nt_0 q1905 yi_X1_cast_FigureSurvey yk_X1_cast rfl (by decide) (by decide) (Nat.le_trans (aw_i (aw_r aw_0)) (by decide)) rfl (mX1_cast C.st ex2) dX0_cast_4)
    rw [if_neg k1] at hk
    by_cases k3 : kx2 = 3
    · subst k3
      rw [if_pos rfl] at hk
      cases hk
      exact v_ofDc (pc := 4) (ek := 3) X [(0, 9, 12, 21)] [] rfl (List.forall_mem_cons.mpr ⟨⟨by decide, _, q1677, by decide +kernel⟩, fun _ hz => by cases hz⟩) (by decide) (by decide) q1573 q1600 ⟨3, 1, 2, by decide, Or.inr ⟨3, rfl, dX0_cast_15, rfl⟩, dX0_cast_16, rfl, dX0_cast_17⟩ (Nat.le_refl _) (Nat.le_refl _) (d_V (pc := 4) C (As := [.int a1]) (rest := [.int (0 : Int32), va_rf a2]) rb1 kb1 nt_0 q1905 yi_X1_cast_FigureSurvey yk_X1_cast rfl (by decide) (by decide) (Nat.le_trans (aw_i (aw_r aw_0)) (by decide)) rfl (mX1_cast C.st ex2) dX0_cast_4)
    rw [if_neg k3] at hk
    cases hk
  refine v_call (pc := 4) (d_V (pc := 4) C (As := [.int a1]) (rest := [.int (0 : Int32), va_rf a2]) rb1 kb1 nt_0 q1905 yi_X1_cast_FigureSurvey yk_X1_cast rfl (by decide) (by decide) (Nat.le_trans (aw_i (aw_r aw_0)) (by decide)) rfl (mX1_cast C.st ex2) dX0_cast_4) ?_
  refine v_i2l (pc := 7) C dX0_cast_7 ?_
  obtain ⟨h4, eh4, hf⟩ := oB hf
  refine v_lastore (pc := 8) C eh4 dX0_cast_8 ?_
  refine v_goto (pc := 9) (tgt := 18) C dX0_cast_9 rfl ?_
  refine v_iconst (pc := 18) (v := (0 : Int32)) C dX0_cast_18 rfl ?_
  cases hf
  exact v_wret (pc := 19) X dX0_cast_19
theorem mX0_cast {l : Launch} {D : aD} {h : aH} {a0 : Option Nat} {a1 : Int32} {a2 : Option Nat} {q : Int32} {g : aH} (hst : l.stackTraces = false) (hf : fX0_cast D h a0 a1 a2 = some (q, g)) : aMw l D yX0_cast cX0_cast 4 [(0, 9, 12, 21), (0, 9, 15, 15)] 9 149 [va_rf a0, .int a1, va_rf a2] h q g :=
  aMw.of [(false, va_rf a0), (false, .int a1), (false, va_rf a2)] rfl (ap_r (ap_c rfl (ap_r ap_0))) (by decide +kernel) hst (al_of (aw_r (aw_i (aw_r aw_0))) (by decide)) fun p e s m args below meth c X => V.sub (lv' := [(0, false, va_rf a0), (1, false, .int a1), (2, false, va_rf a2)]) [0, 1, 2] rfl (vX0_cast X hf)
def fX0_trace (D : aD) (h : aH) (a0 : Option Nat) (a1 : Int32) (a2 : Int32) (a3 : Int64) (a5 : Option Nat) : Option (Int32 × aH) :=
  (aIs h 0 a0).bind fun _ =>
  bndW (fX1_trace D h a0 a1 a2 a3) (fun k => if k = 1 then some (1 : Int32) else if k = 2 then some (2 : Int32) else if k = 3 then some (3 : Int32) else none) fun x2 h3 =>
  (sF D h3 101 a5 (0 : Int32) (.long x2.toInt64)).bind fun h4 =>
  some ((0 : Int32), h4)
theorem vX0_trace {h : aH} {a0 : Option Nat} {a1 : Int32} {a2 : Int32} {a3 : Int64} {a5 : Option Nat} {q : Int32} {g : aH} (X : aXw p l R s m meth c D n0 s0 yX0_trace cX0_trace 9 178 7 [(0, 12, 15, 21), (0, 12, 19, 13), (0, 12, 23, 15)] h) (hf : fX0_trace D h a0 a1 a2 a3 a5 = some (q, g)) : V p l e R s m args below meth c D n0 s0 (aEndw D below args s h q g) h 0 [(0, false, va_rf a0), (1, false, .int a1), (2, false, .int a2), (3, true, .long a3), (5, false, va_rf a5)] [] := by
  have C := X.1
  unfold fX0_trace at hf
  refine v_aload (pc := 0) (j := 4) C dX0_trace_0 rfl ?_
  refine v_iconst (pc := 2) (v := (0 : Int32)) C dX0_trace_2 rfl ?_
  refine v_aload_n (pc := 3) (j := 0) C dX0_trace_3 rfl rfl ?_
  refine v_iload_n (pc := 4) (j := 1) C dX0_trace_4 rfl rfl ?_
  refine v_iload_n (pc := 5) (j := 2) C dX0_trace_5 rfl rfl ?_
  refine v_lload_n (pc := 6) (j := 3) C dX0_trace_6 rfl rfl ?_
  obtain ⟨b1, eb1, hf⟩ := oB hf
  obtain ⟨rb1, _, kb1⟩ := aIs_eq eb1
  rcases bndW_eq hf with ⟨kx2, cx2, gx2, ex2, hk, qx2⟩ | ⟨x2, h3, ex2, hf⟩
  · cases qx2
    by_cases k1 : kx2 = 1
    · subst k1
      rw [if_pos rfl] at hk
      cases hk
      exact v_ofDc (pc := 7) (ek := 1) X [] [(0, 12, 19, 13), (0, 12, 23, 15)] rfl (fun _ hz => by cases hz) (by decide) (by decide) q1677 q1714 ⟨6, 2, 1, by decide, Or.inl ⟨dX0_trace_15, rfl⟩, dX0_trace_17, rfl, dX0_trace_18⟩ (Nat.le_refl _) (Nat.le_refl _) (d_V (pc := 7) C (As := [.int a1, .int a2, .long a3]) (rest := [.int (0 : Int32), va_rf a5]) rb1 kb1 nt_0 q1912 yi_X1_trace_FigureSurvey yk_X1_trace rfl (by decide) (by decide) (Nat.le_trans (aw_i (aw_r aw_0)) (by decide)) rfl (mX1_trace C.st ex2) dX0_trace_7)
    rw [if_neg k1] at hk
    by_cases k2 : kx2 = 2
    · subst k2
      rw [if_pos rfl] at hk
      cases hk
      exact v_ofDc (pc := 7) (ek := 2) X [(0, 12, 15, 21)] [(0, 12, 23, 15)] rfl (List.forall_mem_cons.mpr ⟨⟨by decide, _, q1677, by decide +kernel⟩, fun _ hz => by cases hz⟩) (by decide) (by decide) q1572 q294 ⟨6, 2, 2, by decide, Or.inl ⟨dX0_trace_19, rfl⟩, dX0_trace_21, rfl, dX0_trace_22⟩ (Nat.le_refl _) (Nat.le_refl _) (d_V (pc := 7) C (As := [.int a1, .int a2, .long a3]) (rest := [.int (0 : Int32), va_rf a5]) rb1 kb1 nt_0 q1912 yi_X1_trace_FigureSurvey yk_X1_trace rfl (by decide) (by decide) (Nat.le_trans (aw_i (aw_r aw_0)) (by decide)) rfl (mX1_trace C.st ex2) dX0_trace_7)
    rw [if_neg k2] at hk
    by_cases k3 : kx2 = 3
    · subst k3
      rw [if_pos rfl] at hk
      cases hk
      exact v_ofDc (pc := 7) (ek := 3) X [(0, 12, 15, 21), (0, 12, 19, 13)] [] rfl (List.forall_mem_cons.mpr ⟨⟨by decide, _, q1677, by decide +kernel⟩, List.forall_mem_cons.mpr ⟨⟨by decide, _, q1572, by decide +kernel⟩, fun _ hz => by cases hz⟩⟩) (by decide) (by decide) q1573 q1600 ⟨6, 2, 3, by decide, Or.inl ⟨dX0_trace_23, rfl⟩, dX0_trace_25, rfl, dX0_trace_26⟩ (Nat.le_refl _) (Nat.le_refl _) (d_V (pc := 7) C (As := [.int a1, .int a2, .long a3]) (rest := [.int (0 : Int32), va_rf a5]) rb1 kb1 nt_0 q1912 yi_X1_trace_FigureSurvey yk_X1_trace rfl (by decide) (by decide) (Nat.le_trans (aw_i (aw_r aw_0)) (by decide)) rfl (mX1_trace C.st ex2) dX0_trace_7)
    rw [if_neg k3] at hk
    cases hk
  refine v_call (pc := 7) (d_V (pc := 7) C (As := [.int a1, .int a2, .long a3]) (rest := [.int (0 : Int32), va_rf a5]) rb1 kb1 nt_0 q1912 yi_X1_trace_FigureSurvey yk_X1_trace rfl (by decide) (by decide) (Nat.le_trans (aw_i (aw_r aw_0)) (by decide)) rfl (mX1_trace C.st ex2) dX0_trace_7) ?_
  refine v_i2l (pc := 10) C dX0_trace_10 ?_
  obtain ⟨h4, eh4, hf⟩ := oB hf
  refine v_lastore (pc := 11) C eh4 dX0_trace_11 ?_
  refine v_goto (pc := 12) (tgt := 27) C dX0_trace_12 rfl ?_
  refine v_iconst (pc := 27) (v := (0 : Int32)) C dX0_trace_27 rfl ?_
  cases hf
  exact v_wret (pc := 28) X dX0_trace_28
theorem mX0_trace {l : Launch} {D : aD} {h : aH} {a0 : Option Nat} {a1 : Int32} {a2 : Int32} {a3 : Int64} {a5 : Option Nat} {q : Int32} {g : aH} (hst : l.stackTraces = false) (hf : fX0_trace D h a0 a1 a2 a3 a5 = some (q, g)) : aMw l D yX0_trace cX0_trace 7 [(0, 12, 15, 21), (0, 12, 19, 13), (0, 12, 23, 15)] 9 178 [va_rf a0, .int a1, .int a2, .long a3, va_rf a5] h q g :=
  aMw.of [(false, va_rf a0), (false, .int a1), (false, .int a2), (true, .long a3), (false, va_rf a5)] rfl (ap_r (ap_c rfl (ap_c rfl (ap_c rfl (ap_r ap_0))))) (by decide +kernel) hst (al_of (aw_r (aw_i (aw_i (aw_l (aw_r aw_0))))) (by decide)) fun p e s m args below meth c X => V.sub (lv' := [(0, false, va_rf a0), (1, false, .int a1), (2, false, .int a2), (3, true, .long a3), (5, false, va_rf a5)]) [0, 1, 2, 3, 4] rfl (vX0_trace X hf)
def fX0_shiftOf (D : aD) (h : aH) (a0 : Option Nat) (a1 : Int32) (a2 : Option Nat) : Option (Int32 × aH) :=
  (aIs h 0 a0).bind fun _ =>
  bndW (fX1_shiftOf D h a0 a1) (fun k => if k = 1 then some (1 : Int32) else none) fun x2 h3 =>
  (sF D h3 101 a2 (0 : Int32) (.long x2.toInt64)).bind fun h4 =>
  some ((0 : Int32), h4)
theorem vX0_shiftOf {h : aH} {a0 : Option Nat} {a1 : Int32} {a2 : Option Nat} {q : Int32} {g : aH} (X : aXw p l R s m meth c D n0 s0 yX0_shiftOf cX0_shiftOf 9 146 4 [(0, 9, 12, 21)] h) (hf : fX0_shiftOf D h a0 a1 a2 = some (q, g)) : V p l e R s m args below meth c D n0 s0 (aEndw D below args s h q g) h 0 [(0, false, va_rf a0), (1, false, .int a1), (2, false, va_rf a2)] [] := by
  have C := X.1
  unfold fX0_shiftOf at hf
  refine v_aload_n (pc := 0) (j := 2) C dX0_shiftOf_0 rfl rfl ?_
  refine v_iconst (pc := 1) (v := (0 : Int32)) C dX0_shiftOf_1 rfl ?_
  refine v_aload_n (pc := 2) (j := 0) C dX0_shiftOf_2 rfl rfl ?_
  refine v_iload_n (pc := 3) (j := 1) C dX0_shiftOf_3 rfl rfl ?_
  obtain ⟨b1, eb1, hf⟩ := oB hf
  obtain ⟨rb1, _, kb1⟩ := aIs_eq eb1
  rcases bndW_eq hf with ⟨kx2, cx2, gx2, ex2, hk, qx2⟩ | ⟨x2, h3, ex2, hf⟩
  · cases qx2
    by_cases k1 : kx2 = 1
    · subst k1
      rw [if_pos rfl] at hk
      cases hk
      exact v_ofDc (pc := 4) (ek := 1) X [] [] rfl (fun _ hz => by cases hz) (by decide) (by decide) q1677 q1714 ⟨3, 1, 1, by decide, Or.inr ⟨3, rfl, dX0_shiftOf_12, rfl⟩, dX0_shiftOf_13, rfl, dX0_shiftOf_14⟩ (Nat.le_refl _) (Nat.le_refl _) (d_V (pc := 4) C (As := [.int a1]) (rest := [.int (0 : Int32), va_rf a2]) rb1 kb1 nt_0 q1935 yi_X1_shiftOf_FigureSurvey yk_X1_shiftOf rfl (by decide) (by decide) (Nat.le_trans (aw_i (aw_r aw_0)) (by decide)) rfl (mX1_shiftOf C.st ex2) dX0_shiftOf_4)
    rw [if_neg k1] at hk
    cases hk
  refine v_call (pc := 4) (d_V (pc := 4) C (As := [.int a1]) (rest := [.int (0 : Int32), va_rf a2]) rb1 kb1 nt_0 q1935 yi_X1_shiftOf_FigureSurvey yk_X1_shiftOf rfl (by decide) (by decide) (Nat.le_trans (aw_i (aw_r aw_0)) (by decide)) rfl (mX1_shiftOf C.st ex2) dX0_shiftOf_4) ?_
  refine v_i2l (pc := 7) C dX0_shiftOf_7 ?_
  obtain ⟨h4, eh4, hf⟩ := oB hf
  refine v_lastore (pc := 8) C eh4 dX0_shiftOf_8 ?_
  refine v_goto (pc := 9) (tgt := 15) C dX0_shiftOf_9 rfl ?_
  refine v_iconst (pc := 15) (v := (0 : Int32)) C dX0_shiftOf_15 rfl ?_
  cases hf
  exact v_wret (pc := 16) X dX0_shiftOf_16
theorem mX0_shiftOf {l : Launch} {D : aD} {h : aH} {a0 : Option Nat} {a1 : Int32} {a2 : Option Nat} {q : Int32} {g : aH} (hst : l.stackTraces = false) (hf : fX0_shiftOf D h a0 a1 a2 = some (q, g)) : aMw l D yX0_shiftOf cX0_shiftOf 4 [(0, 9, 12, 21)] 9 146 [va_rf a0, .int a1, va_rf a2] h q g :=
  aMw.of [(false, va_rf a0), (false, .int a1), (false, va_rf a2)] rfl (ap_r (ap_c rfl (ap_r ap_0))) (by decide +kernel) hst (al_of (aw_r (aw_i (aw_r aw_0))) (by decide)) fun p e s m args below meth c X => V.sub (lv' := [(0, false, va_rf a0), (1, false, .int a1), (2, false, va_rf a2)]) [0, 1, 2] rfl (vX0_shiftOf X hf)
def fX0_scoreOf (D : aD) (h : aH) (a0 : Option Nat) (a1 : Int32) (a2 : Option Nat) : Option (Int32 × aH) :=
  (aIs h 0 a0).bind fun _ =>
  bndW (fX1_scoreOf D h a0 a1) (fun k => if k = 1 then some (1 : Int32) else none) fun x2 h3 =>
  (sF D h3 101 a2 (0 : Int32) (.long x2.toInt64)).bind fun h4 =>
  some ((0 : Int32), h4)
theorem vX0_scoreOf {h : aH} {a0 : Option Nat} {a1 : Int32} {a2 : Option Nat} {q : Int32} {g : aH} (X : aXw p l R s m meth c D n0 s0 yX0_scoreOf cX0_scoreOf 9 154 4 [(0, 9, 12, 21)] h) (hf : fX0_scoreOf D h a0 a1 a2 = some (q, g)) : V p l e R s m args below meth c D n0 s0 (aEndw D below args s h q g) h 0 [(0, false, va_rf a0), (1, false, .int a1), (2, false, va_rf a2)] [] := by
  have C := X.1
  unfold fX0_scoreOf at hf
  refine v_aload_n (pc := 0) (j := 2) C dX0_scoreOf_0 rfl rfl ?_
  refine v_iconst (pc := 1) (v := (0 : Int32)) C dX0_scoreOf_1 rfl ?_
  refine v_aload_n (pc := 2) (j := 0) C dX0_scoreOf_2 rfl rfl ?_
  refine v_iload_n (pc := 3) (j := 1) C dX0_scoreOf_3 rfl rfl ?_
  obtain ⟨b1, eb1, hf⟩ := oB hf
  obtain ⟨rb1, _, kb1⟩ := aIs_eq eb1
  rcases bndW_eq hf with ⟨kx2, cx2, gx2, ex2, hk, qx2⟩ | ⟨x2, h3, ex2, hf⟩
  · cases qx2
    by_cases k1 : kx2 = 1
    · subst k1
      rw [if_pos rfl] at hk
      cases hk
      exact v_ofDc (pc := 4) (ek := 1) X [] [] rfl (fun _ hz => by cases hz) (by decide) (by decide) q1677 q1714 ⟨3, 1, 1, by decide, Or.inr ⟨3, rfl, dX0_scoreOf_12, rfl⟩, dX0_scoreOf_13, rfl, dX0_scoreOf_14⟩ (Nat.le_refl _) (Nat.le_refl _) (d_V (pc := 4) C (As := [.int a1]) (rest := [.int (0 : Int32), va_rf a2]) rb1 kb1 nt_0 q1947 yi_X1_scoreOf_FigureSurvey yk_X1_scoreOf rfl (by decide) (by decide) (Nat.le_trans (aw_i (aw_r aw_0)) (by decide)) rfl (mX1_scoreOf C.st ex2) dX0_scoreOf_4)
    rw [if_neg k1] at hk
    cases hk
  refine v_call (pc := 4) (d_V (pc := 4) C (As := [.int a1]) (rest := [.int (0 : Int32), va_rf a2]) rb1 kb1 nt_0 q1947 yi_X1_scoreOf_FigureSurvey yk_X1_scoreOf rfl (by decide) (by decide) (Nat.le_trans (aw_i (aw_r aw_0)) (by decide)) rfl (mX1_scoreOf C.st ex2) dX0_scoreOf_4) ?_
  refine v_i2l (pc := 7) C dX0_scoreOf_7 ?_
  obtain ⟨h4, eh4, hf⟩ := oB hf
  refine v_lastore (pc := 8) C eh4 dX0_scoreOf_8 ?_
  refine v_goto (pc := 9) (tgt := 15) C dX0_scoreOf_9 rfl ?_
  refine v_iconst (pc := 15) (v := (0 : Int32)) C dX0_scoreOf_15 rfl ?_
  cases hf
  exact v_wret (pc := 16) X dX0_scoreOf_16
theorem mX0_scoreOf {l : Launch} {D : aD} {h : aH} {a0 : Option Nat} {a1 : Int32} {a2 : Option Nat} {q : Int32} {g : aH} (hst : l.stackTraces = false) (hf : fX0_scoreOf D h a0 a1 a2 = some (q, g)) : aMw l D yX0_scoreOf cX0_scoreOf 4 [(0, 9, 12, 21)] 9 154 [va_rf a0, .int a1, va_rf a2] h q g :=
  aMw.of [(false, va_rf a0), (false, .int a1), (false, va_rf a2)] rfl (ap_r (ap_c rfl (ap_r ap_0))) (by decide +kernel) hst (al_of (aw_r (aw_i (aw_r aw_0))) (by decide)) fun p e s m args below meth c X => V.sub (lv' := [(0, false, va_rf a0), (1, false, .int a1), (2, false, va_rf a2)]) [0, 1, 2] rfl (vX0_scoreOf X hf)
def fX0_handScore (D : aD) (h : aH) (a0 : Option Nat) (a1 : Int32) (a2 : Option Nat) : Option (Int32 × aH) :=
  (aIs h 0 a0).bind fun _ =>
  bndW (fX1_handScore D h a0 a1) (fun k => if k = 2 then some (1 : Int32) else none) fun x2 h3 =>
  (sF D h3 101 a2 (0 : Int32) (.long x2.toInt64)).bind fun h4 =>
  some ((0 : Int32), h4)
theorem vX0_handScore {h : aH} {a0 : Option Nat} {a1 : Int32} {a2 : Option Nat} {q : Int32} {g : aH} (X : aXw p l R s m meth c D n0 s0 yX0_handScore cX0_handScore 8 157 4 [(0, 9, 12, 13)] h) (hf : fX0_handScore D h a0 a1 a2 = some (q, g)) : V p l e R s m args below meth c D n0 s0 (aEndw D below args s h q g) h 0 [(0, false, va_rf a0), (1, false, .int a1), (2, false, va_rf a2)] [] := by
  have C := X.1
  unfold fX0_handScore at hf
  refine v_aload_n (pc := 0) (j := 2) C dX0_handScore_0 rfl rfl ?_
  refine v_iconst (pc := 1) (v := (0 : Int32)) C dX0_handScore_1 rfl ?_
  refine v_aload_n (pc := 2) (j := 0) C dX0_handScore_2 rfl rfl ?_
  refine v_iload_n (pc := 3) (j := 1) C dX0_handScore_3 rfl rfl ?_
  obtain ⟨b1, eb1, hf⟩ := oB hf
  obtain ⟨rb1, _, kb1⟩ := aIs_eq eb1
  rcases bndW_eq hf with ⟨kx2, cx2, gx2, ex2, hk, qx2⟩ | ⟨x2, h3, ex2, hf⟩
  · cases qx2
    by_cases k2 : kx2 = 2
    · subst k2
      rw [if_pos rfl] at hk
      cases hk
      exact v_ofDc (pc := 4) (ek := 2) X [] [] rfl (fun _ hz => by cases hz) (by decide) (by decide) q1572 q294 ⟨3, 1, 1, by decide, Or.inr ⟨3, rfl, dX0_handScore_12, rfl⟩, dX0_handScore_13, rfl, dX0_handScore_14⟩ (Nat.le_refl _) (Nat.le_refl _) (d_V (pc := 4) C (As := [.int a1]) (rest := [.int (0 : Int32), va_rf a2]) rb1 kb1 nt_0 q1955 yi_X1_handScore_FigureSurvey yk_X1_handScore rfl (by decide) (by decide) (Nat.le_trans (aw_i (aw_r aw_0)) (by decide)) rfl (mX1_handScore C.st ex2) dX0_handScore_4)
    rw [if_neg k2] at hk
    cases hk
  refine v_call (pc := 4) (d_V (pc := 4) C (As := [.int a1]) (rest := [.int (0 : Int32), va_rf a2]) rb1 kb1 nt_0 q1955 yi_X1_handScore_FigureSurvey yk_X1_handScore rfl (by decide) (by decide) (Nat.le_trans (aw_i (aw_r aw_0)) (by decide)) rfl (mX1_handScore C.st ex2) dX0_handScore_4) ?_
  refine v_i2l (pc := 7) C dX0_handScore_7 ?_
  obtain ⟨h4, eh4, hf⟩ := oB hf
  refine v_lastore (pc := 8) C eh4 dX0_handScore_8 ?_
  refine v_goto (pc := 9) (tgt := 15) C dX0_handScore_9 rfl ?_
  refine v_iconst (pc := 15) (v := (0 : Int32)) C dX0_handScore_15 rfl ?_
  cases hf
  exact v_wret (pc := 16) X dX0_handScore_16
theorem mX0_handScore {l : Launch} {D : aD} {h : aH} {a0 : Option Nat} {a1 : Int32} {a2 : Option Nat} {q : Int32} {g : aH} (hst : l.stackTraces = false) (hf : fX0_handScore D h a0 a1 a2 = some (q, g)) : aMw l D yX0_handScore cX0_handScore 4 [(0, 9, 12, 13)] 8 157 [va_rf a0, .int a1, va_rf a2] h q g :=
  aMw.of [(false, va_rf a0), (false, .int a1), (false, va_rf a2)] rfl (ap_r (ap_c rfl (ap_r ap_0))) (by decide +kernel) hst (al_of (aw_r (aw_i (aw_r aw_0))) (by decide)) fun p e s m args below meth c X => V.sub (lv' := [(0, false, va_rf a0), (1, false, .int a1), (2, false, va_rf a2)]) [0, 1, 2] rfl (vX0_handScore X hf)
def fX0_consensus (D : aD) (h : aH) (a0 : Option Nat) (a1 : Int32) (a2 : Option Nat) : Option (Int32 × aH) :=
  (aIs h 0 a0).bind fun _ =>
  bndW (fX1_consensus D h a0 a1) (fun k => if k = 1 then some (1 : Int32) else none) fun x2 h3 =>
  (sF D h3 101 a2 (0 : Int32) (.long x2)).bind fun h4 =>
  some ((0 : Int32), h4)
theorem vX0_consensus {h : aH} {a0 : Option Nat} {a1 : Int32} {a2 : Option Nat} {q : Int32} {g : aH} (X : aXw p l R s m meth c D n0 s0 yX0_consensus cX0_consensus 9 161 4 [(0, 8, 11, 21)] h) (hf : fX0_consensus D h a0 a1 a2 = some (q, g)) : V p l e R s m args below meth c D n0 s0 (aEndw D below args s h q g) h 0 [(0, false, va_rf a0), (1, false, .int a1), (2, false, va_rf a2)] [] := by
  have C := X.1
  unfold fX0_consensus at hf
  refine v_aload_n (pc := 0) (j := 2) C dX0_consensus_0 rfl rfl ?_
  refine v_iconst (pc := 1) (v := (0 : Int32)) C dX0_consensus_1 rfl ?_
  refine v_aload_n (pc := 2) (j := 0) C dX0_consensus_2 rfl rfl ?_
  refine v_iload_n (pc := 3) (j := 1) C dX0_consensus_3 rfl rfl ?_
  obtain ⟨b1, eb1, hf⟩ := oB hf
  obtain ⟨rb1, _, kb1⟩ := aIs_eq eb1
  rcases bndW_eq hf with ⟨kx2, cx2, gx2, ex2, hk, qx2⟩ | ⟨x2, h3, ex2, hf⟩
  · cases qx2
    by_cases k1 : kx2 = 1
    · subst k1
      rw [if_pos rfl] at hk
      cases hk
      exact v_ofDc (pc := 4) (ek := 1) X [] [] rfl (fun _ hz => by cases hz) (by decide) (by decide) q1677 q1714 ⟨3, 1, 1, by decide, Or.inr ⟨3, rfl, dX0_consensus_11, rfl⟩, dX0_consensus_12, rfl, dX0_consensus_13⟩ (Nat.le_refl _) (Nat.le_refl _) (d_V (pc := 4) C (As := [.int a1]) (rest := [.int (0 : Int32), va_rf a2]) rb1 kb1 nt_0 q1962 yi_X1_consensus_FigureSurvey yk_X1_consensus rfl (by decide) (by decide) (Nat.le_trans (aw_i (aw_r aw_0)) (by decide)) rfl (mX1_consensus C.st ex2) dX0_consensus_4)
    rw [if_neg k1] at hk
    cases hk
  refine v_call (pc := 4) (d_V (pc := 4) C (As := [.int a1]) (rest := [.int (0 : Int32), va_rf a2]) rb1 kb1 nt_0 q1962 yi_X1_consensus_FigureSurvey yk_X1_consensus rfl (by decide) (by decide) (Nat.le_trans (aw_i (aw_r aw_0)) (by decide)) rfl (mX1_consensus C.st ex2) dX0_consensus_4) ?_
  obtain ⟨h4, eh4, hf⟩ := oB hf
  refine v_lastore (pc := 7) C eh4 dX0_consensus_7 ?_
  refine v_goto (pc := 8) (tgt := 14) C dX0_consensus_8 rfl ?_
  refine v_iconst (pc := 14) (v := (0 : Int32)) C dX0_consensus_14 rfl ?_
  cases hf
  exact v_wret (pc := 15) X dX0_consensus_15
theorem mX0_consensus {l : Launch} {D : aD} {h : aH} {a0 : Option Nat} {a1 : Int32} {a2 : Option Nat} {q : Int32} {g : aH} (hst : l.stackTraces = false) (hf : fX0_consensus D h a0 a1 a2 = some (q, g)) : aMw l D yX0_consensus cX0_consensus 4 [(0, 8, 11, 21)] 9 161 [va_rf a0, .int a1, va_rf a2] h q g :=
  aMw.of [(false, va_rf a0), (false, .int a1), (false, va_rf a2)] rfl (ap_r (ap_c rfl (ap_r ap_0))) (by decide +kernel) hst (al_of (aw_r (aw_i (aw_r aw_0))) (by decide)) fun p e s m args below meth c X => V.sub (lv' := [(0, false, va_rf a0), (1, false, .int a1), (2, false, va_rf a2)]) [0, 1, 2] rfl (vX0_consensus X hf)
def fX0_clearMarks (D : aD) (h : aH) (a0 : Option Nat) (a1 : Int32) (a2 : Option Nat) : Option (Int32 × aH) :=
  (aIs h 0 a0).bind fun _ =>
  bndW (fX1_clearMarks D h a0 a1) (fun k => if k = 1 then some (1 : Int32) else none) fun x2 h3 =>
  (sF D h3 101 a2 (0 : Int32) (.long x2.toInt64)).bind fun h4 =>
  some ((0 : Int32), h4)
theorem vX0_clearMarks {h : aH} {a0 : Option Nat} {a1 : Int32} {a2 : Option Nat} {q : Int32} {g : aH} (X : aXw p l R s m meth c D n0 s0 yX0_clearMarks cX0_clearMarks 9 147 4 [(0, 9, 12, 21)] h) (hf : fX0_clearMarks D h a0 a1 a2 = some (q, g)) : V p l e R s m args below meth c D n0 s0 (aEndw D below args s h q g) h 0 [(0, false, va_rf a0), (1, false, .int a1), (2, false, va_rf a2)] [] := by
  have C := X.1
  unfold fX0_clearMarks at hf
  refine v_aload_n (pc := 0) (j := 2) C dX0_clearMarks_0 rfl rfl ?_
  refine v_iconst (pc := 1) (v := (0 : Int32)) C dX0_clearMarks_1 rfl ?_
  refine v_aload_n (pc := 2) (j := 0) C dX0_clearMarks_2 rfl rfl ?_
  refine v_iload_n (pc := 3) (j := 1) C dX0_clearMarks_3 rfl rfl ?_
  obtain ⟨b1, eb1, hf⟩ := oB hf
  obtain ⟨rb1, _, kb1⟩ := aIs_eq eb1
  rcases bndW_eq hf with ⟨kx2, cx2, gx2, ex2, hk, qx2⟩ | ⟨x2, h3, ex2, hf⟩
  · cases qx2
    by_cases k1 : kx2 = 1
    · subst k1
      rw [if_pos rfl] at hk
      cases hk
      exact v_ofDc (pc := 4) (ek := 1) X [] [] rfl (fun _ hz => by cases hz) (by decide) (by decide) q1677 q1714 ⟨3, 1, 1, by decide, Or.inr ⟨3, rfl, dX0_clearMarks_12, rfl⟩, dX0_clearMarks_13, rfl, dX0_clearMarks_14⟩ (Nat.le_refl _) (Nat.le_refl _) (d_V (pc := 4) C (As := [.int a1]) (rest := [.int (0 : Int32), va_rf a2]) rb1 kb1 nt_0 q1982 yi_X1_clearMarks_FigureSurvey yk_X1_clearMarks rfl (by decide) (by decide) (Nat.le_trans (aw_i (aw_r aw_0)) (by decide)) rfl (mX1_clearMarks C.st ex2) dX0_clearMarks_4)
    rw [if_neg k1] at hk
    cases hk
  refine v_call (pc := 4) (d_V (pc := 4) C (As := [.int a1]) (rest := [.int (0 : Int32), va_rf a2]) rb1 kb1 nt_0 q1982 yi_X1_clearMarks_FigureSurvey yk_X1_clearMarks rfl (by decide) (by decide) (Nat.le_trans (aw_i (aw_r aw_0)) (by decide)) rfl (mX1_clearMarks C.st ex2) dX0_clearMarks_4) ?_
  refine v_i2l (pc := 7) C dX0_clearMarks_7 ?_
  obtain ⟨h4, eh4, hf⟩ := oB hf
  refine v_lastore (pc := 8) C eh4 dX0_clearMarks_8 ?_
  refine v_goto (pc := 9) (tgt := 15) C dX0_clearMarks_9 rfl ?_
  refine v_iconst (pc := 15) (v := (0 : Int32)) C dX0_clearMarks_15 rfl ?_
  cases hf
  exact v_wret (pc := 16) X dX0_clearMarks_16
theorem mX0_clearMarks {l : Launch} {D : aD} {h : aH} {a0 : Option Nat} {a1 : Int32} {a2 : Option Nat} {q : Int32} {g : aH} (hst : l.stackTraces = false) (hf : fX0_clearMarks D h a0 a1 a2 = some (q, g)) : aMw l D yX0_clearMarks cX0_clearMarks 4 [(0, 9, 12, 21)] 9 147 [va_rf a0, .int a1, va_rf a2] h q g :=
  aMw.of [(false, va_rf a0), (false, .int a1), (false, va_rf a2)] rfl (ap_r (ap_c rfl (ap_r ap_0))) (by decide +kernel) hst (al_of (aw_r (aw_i (aw_r aw_0))) (by decide)) fun p e s m args below meth c X => V.sub (lv' := [(0, false, va_rf a0), (1, false, .int a1), (2, false, va_rf a2)]) [0, 1, 2] rfl (vX0_clearMarks X hf)
def fX0_setWeapon (D : aD) (h : aH) (a0 : Option Nat) (a1 : Int32) (a2 : Int32) (a3 : Option Nat) : Option (Int32 × aH) :=
  (aIs h 0 a0).bind fun _ =>
  bndW (fX1_setWeapon D h a0 a1 a2) (fun k => if k = 2 then some (1 : Int32) else none) fun x2 h3 =>
  (sF D h3 101 a3 (0 : Int32) (.long x2.toInt64)).bind fun h4 =>
  some ((0 : Int32), h4)
theorem vX0_setWeapon {h : aH} {a0 : Option Nat} {a1 : Int32} {a2 : Int32} {a3 : Option Nat} {q : Int32} {g : aH} (X : aXw p l R s m meth c D n0 s0 yX0_setWeapon cX0_setWeapon 8 127 5 [(0, 10, 13, 13)] h) (hf : fX0_setWeapon D h a0 a1 a2 a3 = some (q, g)) : V p l e R s m args below meth c D n0 s0 (aEndw D below args s h q g) h 0 [(0, false, va_rf a0), (1, false, .int a1), (2, false, .int a2), (3, false, va_rf a3)] [] := by
  have C := X.1
  unfold fX0_setWeapon at hf
  refine v_aload_n (pc := 0) (j := 3) C dX0_setWeapon_0 rfl rfl ?_
  refine v_iconst (pc := 1) (v := (0 : Int32)) C dX0_setWeapon_1 rfl ?_
  refine v_aload_n (pc := 2) (j := 0) C dX0_setWeapon_2 rfl rfl ?_
  refine v_iload_n (pc := 3) (j := 1) C dX0_setWeapon_3 rfl rfl ?_
  refine v_iload_n (pc := 4) (j := 2) C dX0_setWeapon_4 rfl rfl ?_
  obtain ⟨b1, eb1, hf⟩ := oB hf
  obtain ⟨rb1, _, kb1⟩ := aIs_eq eb1
  rcases bndW_eq hf with ⟨kx2, cx2, gx2, ex2, hk, qx2⟩ | ⟨x2, h3, ex2, hf⟩
  · cases qx2
    by_cases k2 : kx2 = 2
    · subst k2
      rw [if_pos rfl] at hk
      cases hk
      exact v_ofDc (pc := 5) (ek := 2) X [] [] rfl (fun _ hz => by cases hz) (by decide) (by decide) q1572 q294 ⟨4, 2, 1, by decide, Or.inl ⟨dX0_setWeapon_13, rfl⟩, dX0_setWeapon_15, rfl, dX0_setWeapon_16⟩ (Nat.le_refl _) (Nat.le_refl _) (d_V (pc := 5) C (As := [.int a1, .int a2]) (rest := [.int (0 : Int32), va_rf a3]) rb1 kb1 nt_0 q1996 yi_X1_setWeapon_FigureSurvey yk_X1_setWeapon rfl (by decide) (by decide) (Nat.le_trans (aw_i (aw_r aw_0)) (by decide)) rfl (mX1_setWeapon C.st ex2) dX0_setWeapon_5)
    rw [if_neg k2] at hk
    cases hk
  refine v_call (pc := 5) (d_V (pc := 5) C (As := [.int a1, .int a2]) (rest := [.int (0 : Int32), va_rf a3]) rb1 kb1 nt_0 q1996 yi_X1_setWeapon_FigureSurvey yk_X1_setWeapon rfl (by decide) (by decide) (Nat.le_trans (aw_i (aw_r aw_0)) (by decide)) rfl (mX1_setWeapon C.st ex2) dX0_setWeapon_5) ?_
  refine v_i2l (pc := 8) C dX0_setWeapon_8 ?_
  obtain ⟨h4, eh4, hf⟩ := oB hf
  refine v_lastore (pc := 9) C eh4 dX0_setWeapon_9 ?_
  refine v_goto (pc := 10) (tgt := 17) C dX0_setWeapon_10 rfl ?_
  refine v_iconst (pc := 17) (v := (0 : Int32)) C dX0_setWeapon_17 rfl ?_
  cases hf
  exact v_wret (pc := 18) X dX0_setWeapon_18
theorem mX0_setWeapon {l : Launch} {D : aD} {h : aH} {a0 : Option Nat} {a1 : Int32} {a2 : Int32} {a3 : Option Nat} {q : Int32} {g : aH} (hst : l.stackTraces = false) (hf : fX0_setWeapon D h a0 a1 a2 a3 = some (q, g)) : aMw l D yX0_setWeapon cX0_setWeapon 5 [(0, 10, 13, 13)] 8 127 [va_rf a0, .int a1, .int a2, va_rf a3] h q g :=
  aMw.of [(false, va_rf a0), (false, .int a1), (false, .int a2), (false, va_rf a3)] rfl (ap_r (ap_c rfl (ap_c rfl (ap_r ap_0)))) (by decide +kernel) hst (al_of (aw_r (aw_i (aw_i (aw_r aw_0)))) (by decide)) fun p e s m args below meth c X => V.sub (lv' := [(0, false, va_rf a0), (1, false, .int a1), (2, false, .int a2), (3, false, va_rf a3)]) [0, 1, 2, 3] rfl (vX0_setWeapon X hf)
def fX0_setAnimal (D : aD) (h : aH) (a0 : Option Nat) (a1 : Int32) (a2 : Int32) (a3 : Option Nat) : Option (Int32 × aH) :=
  (aIs h 0 a0).bind fun _ =>
  bndW (fX1_setAnimal D h a0 a1 a2) (fun k => if k = 2 then some (1 : Int32) else none) fun x2 h3 =>
  (sF D h3 101 a3 (0 : Int32) (.long x2.toInt64)).bind fun h4 =>
  some ((0 : Int32), h4)
theorem vX0_setAnimal {h : aH} {a0 : Option Nat} {a1 : Int32} {a2 : Int32} {a3 : Option Nat} {q : Int32} {g : aH} (X : aXw p l R s m meth c D n0 s0 yX0_setAnimal cX0_setAnimal 8 127 5 [(0, 10, 13, 13)] h) (hf : fX0_setAnimal D h a0 a1 a2 a3 = some (q, g)) : V p l e R s m args below meth c D n0 s0 (aEndw D below args s h q g) h 0 [(0, false, va_rf a0), (1, false, .int a1), (2, false, .int a2), (3, false, va_rf a3)] [] := by
  have C := X.1
  unfold fX0_setAnimal at hf
  refine v_aload_n (pc := 0) (j := 3) C dX0_setAnimal_0 rfl rfl ?_
  refine v_iconst (pc := 1) (v := (0 : Int32)) C dX0_setAnimal_1 rfl ?_
  refine v_aload_n (pc := 2) (j := 0) C dX0_setAnimal_2 rfl rfl ?_
  refine v_iload_n (pc := 3) (j := 1) C dX0_setAnimal_3 rfl rfl ?_
  refine v_iload_n (pc := 4) (j := 2) C dX0_setAnimal_4 rfl rfl ?_
  obtain ⟨b1, eb1, hf⟩ := oB hf
  obtain ⟨rb1, _, kb1⟩ := aIs_eq eb1
  rcases bndW_eq hf with ⟨kx2, cx2, gx2, ex2, hk, qx2⟩ | ⟨x2, h3, ex2, hf⟩
  · cases qx2
    by_cases k2 : kx2 = 2
    · subst k2
      rw [if_pos rfl] at hk
      cases hk
      exact v_ofDc (pc := 5) (ek := 2) X [] [] rfl (fun _ hz => by cases hz) (by decide) (by decide) q1572 q294 ⟨4, 2, 1, by decide, Or.inl ⟨dX0_setAnimal_13, rfl⟩, dX0_setAnimal_15, rfl, dX0_setAnimal_16⟩ (Nat.le_refl _) (Nat.le_refl _) (d_V (pc := 5) C (As := [.int a1, .int a2]) (rest := [.int (0 : Int32), va_rf a3]) rb1 kb1 nt_0 q2003 yi_X1_setAnimal_FigureSurvey yk_X1_setAnimal rfl (by decide) (by decide) (Nat.le_trans (aw_i (aw_r aw_0)) (by decide)) rfl (mX1_setAnimal C.st ex2) dX0_setAnimal_5)
    rw [if_neg k2] at hk
    cases hk
  refine v_call (pc := 5) (d_V (pc := 5) C (As := [.int a1, .int a2]) (rest := [.int (0 : Int32), va_rf a3]) rb1 kb1 nt_0 q2003 yi_X1_setAnimal_FigureSurvey yk_X1_setAnimal rfl (by decide) (by decide) (Nat.le_trans (aw_i (aw_r aw_0)) (by decide)) rfl (mX1_setAnimal C.st ex2) dX0_setAnimal_5) ?_
  refine v_i2l (pc := 8) C dX0_setAnimal_8 ?_
  obtain ⟨h4, eh4, hf⟩ := oB hf
  refine v_lastore (pc := 9) C eh4 dX0_setAnimal_9 ?_
  refine v_goto (pc := 10) (tgt := 17) C dX0_setAnimal_10 rfl ?_
  refine v_iconst (pc := 17) (v := (0 : Int32)) C dX0_setAnimal_17 rfl ?_
  cases hf
  exact v_wret (pc := 18) X dX0_setAnimal_18
theorem mX0_setAnimal {l : Launch} {D : aD} {h : aH} {a0 : Option Nat} {a1 : Int32} {a2 : Int32} {a3 : Option Nat} {q : Int32} {g : aH} (hst : l.stackTraces = false) (hf : fX0_setAnimal D h a0 a1 a2 a3 = some (q, g)) : aMw l D yX0_setAnimal cX0_setAnimal 5 [(0, 10, 13, 13)] 8 127 [va_rf a0, .int a1, .int a2, va_rf a3] h q g :=
  aMw.of [(false, va_rf a0), (false, .int a1), (false, .int a2), (false, va_rf a3)] rfl (ap_r (ap_c rfl (ap_c rfl (ap_r ap_0)))) (by decide +kernel) hst (al_of (aw_r (aw_i (aw_i (aw_r aw_0)))) (by decide)) fun p e s m args below meth c X => V.sub (lv' := [(0, false, va_rf a0), (1, false, .int a1), (2, false, .int a2), (3, false, va_rf a3)]) [0, 1, 2, 3] rfl (vX0_setAnimal X hf)
def fX0_remove (D : aD) (h : aH) (a0 : Option Nat) (a1 : Int32) (a2 : Option Nat) : Option (Int32 × aH) :=
  (aIs h 0 a0).bind fun _ =>
  bndW (fX1_remove D h a0 a1) (fun k => if k = 1 then some (1 : Int32) else none) fun x2 h3 =>
  (sF D h3 101 a2 (0 : Int32) (.long x2.toInt64)).bind fun h4 =>
  some ((0 : Int32), h4)
theorem vX0_remove {h : aH} {a0 : Option Nat} {a1 : Int32} {a2 : Option Nat} {q : Int32} {g : aH} (X : aXw p l R s m meth c D n0 s0 yX0_remove cX0_remove 8 154 4 [(0, 9, 12, 21)] h) (hf : fX0_remove D h a0 a1 a2 = some (q, g)) : V p l e R s m args below meth c D n0 s0 (aEndw D below args s h q g) h 0 [(0, false, va_rf a0), (1, false, .int a1), (2, false, va_rf a2)] [] := by
  have C := X.1
  unfold fX0_remove at hf
  refine v_aload_n (pc := 0) (j := 2) C dX0_remove_0 rfl rfl ?_
  refine v_iconst (pc := 1) (v := (0 : Int32)) C dX0_remove_1 rfl ?_
  refine v_aload_n (pc := 2) (j := 0) C dX0_remove_2 rfl rfl ?_
  refine v_iload_n (pc := 3) (j := 1) C dX0_remove_3 rfl rfl ?_
  obtain ⟨b1, eb1, hf⟩ := oB hf
  obtain ⟨rb1, _, kb1⟩ := aIs_eq eb1
  rcases bndW_eq hf with ⟨kx2, cx2, gx2, ex2, hk, qx2⟩ | ⟨x2, h3, ex2, hf⟩
  · cases qx2
    by_cases k1 : kx2 = 1
    · subst k1
      rw [if_pos rfl] at hk
      cases hk
      exact v_ofDc (pc := 4) (ek := 1) X [] [] rfl (fun _ hz => by cases hz) (by decide) (by decide) q1677 q1714 ⟨3, 1, 1, by decide, Or.inr ⟨3, rfl, dX0_remove_12, rfl⟩, dX0_remove_13, rfl, dX0_remove_14⟩ (Nat.le_refl _) (Nat.le_refl _) (d_V (pc := 4) C (As := [.int a1]) (rest := [.int (0 : Int32), va_rf a2]) rb1 kb1 nt_0 q2089 yi_X1_remove_FigureSurvey yk_X1_remove rfl (by decide) (by decide) (Nat.le_trans (aw_i (aw_r aw_0)) (by decide)) rfl (mX1_remove C.st ex2) dX0_remove_4)
    rw [if_neg k1] at hk
    cases hk
  refine v_call (pc := 4) (d_V (pc := 4) C (As := [.int a1]) (rest := [.int (0 : Int32), va_rf a2]) rb1 kb1 nt_0 q2089 yi_X1_remove_FigureSurvey yk_X1_remove rfl (by decide) (by decide) (Nat.le_trans (aw_i (aw_r aw_0)) (by decide)) rfl (mX1_remove C.st ex2) dX0_remove_4) ?_
  refine v_i2l (pc := 7) C dX0_remove_7 ?_
  obtain ⟨h4, eh4, hf⟩ := oB hf
  refine v_lastore (pc := 8) C eh4 dX0_remove_8 ?_
  refine v_goto (pc := 9) (tgt := 15) C dX0_remove_9 rfl ?_
  refine v_iconst (pc := 15) (v := (0 : Int32)) C dX0_remove_15 rfl ?_
  cases hf
  exact v_wret (pc := 16) X dX0_remove_16
theorem mX0_remove {l : Launch} {D : aD} {h : aH} {a0 : Option Nat} {a1 : Int32} {a2 : Option Nat} {q : Int32} {g : aH} (hst : l.stackTraces = false) (hf : fX0_remove D h a0 a1 a2 = some (q, g)) : aMw l D yX0_remove cX0_remove 4 [(0, 9, 12, 21)] 8 154 [va_rf a0, .int a1, va_rf a2] h q g :=
  aMw.of [(false, va_rf a0), (false, .int a1), (false, va_rf a2)] rfl (ap_r (ap_c rfl (ap_r ap_0))) (by decide +kernel) hst (al_of (aw_r (aw_i (aw_r aw_0))) (by decide)) fun p e s m args below meth c X => V.sub (lv' := [(0, false, va_rf a0), (1, false, .int a1), (2, false, va_rf a2)]) [0, 1, 2] rfl (vX0_remove X hf)
def fX0_setFeatures (D : aD) (h : aH) (a0 : Option Nat) (a1 : Int32) (a2 : Int32) (a3 : Option Nat) : Option (Int32 × aH) :=
  (aIs h 0 a0).bind fun _ =>
  bndW (fX1_setFeatures D h a0 a1 a2) (fun k => if k = 1 then some (1 : Int32) else if k = 2 then some (2 : Int32) else none) fun x2 h3 =>
  (sF D h3 101 a3 (0 : Int32) (.long x2.toInt64)).bind fun h4 =>
  some ((0 : Int32), h4)
theorem vX0_setFeatures {h : aH} {a0 : Option Nat} {a1 : Int32} {a2 : Int32} {a3 : Option Nat} {q : Int32} {g : aH} (X : aXw p l R s m meth c D n0 s0 yX0_setFeatures cX0_setFeatures 9 147 5 [(0, 10, 13, 21), (0, 10, 17, 13)] h) (hf : fX0_setFeatures D h a0 a1 a2 a3 = some (q, g)) : V p l e R s m args below meth c D n0 s0 (aEndw D below args s h q g) h 0 [(0, false, va_rf a0), (1, false, .int a1), (2, false, .int a2), (3, false, va_rf a3)] [] := by
  have C := X.1
  unfold fX0_setFeatures at hf
  refine v_aload_n (pc := 0) (j := 3) C dX0_setFeatures_0 rfl rfl ?_
  refine v_iconst (pc := 1) (v := (0 : Int32)) C dX0_setFeatures_1 rfl ?_
  refine v_aload_n (pc := 2) (j := 0) C dX0_setFeatures_2 rfl rfl ?_
  refine v_iload_n (pc := 3) (j := 1) C dX0_setFeatures_3 rfl rfl ?_
  refine v_iload_n (pc := 4) (j := 2) C dX0_setFeatures_4 rfl rfl ?_
  obtain ⟨b1, eb1, hf⟩ := oB hf
  obtain ⟨rb1, _, kb1⟩ := aIs_eq eb1
  rcases bndW_eq hf with ⟨kx2, cx2, gx2, ex2, hk, qx2⟩ | ⟨x2, h3, ex2, hf⟩
  · cases qx2
    by_cases k1 : kx2 = 1
    · subst k1
      rw [if_pos rfl] at hk
      cases hk
      exact v_ofDc (pc := 5) (ek := 1) X [] [(0, 10, 17, 13)] rfl (fun _ hz => by cases hz) (by decide) (by decide) q1677 q1714 ⟨4, 2, 1, by decide, Or.inl ⟨dX0_setFeatures_13, rfl⟩, dX0_setFeatures_15, rfl, dX0_setFeatures_16⟩ (Nat.le_refl _) (Nat.le_refl _) (d_V (pc := 5) C (As := [.int a1, .int a2]) (rest := [.int (0 : Int32), va_rf a3]) rb1 kb1 nt_0 q2182 yi_X1_setFeatures_FigureSurvey yk_X1_setFeatures rfl (by decide) (by decide) (Nat.le_trans (aw_i (aw_r aw_0)) (by decide)) rfl (mX1_setFeatures C.st ex2) dX0_setFeatures_5)
    rw [if_neg k1] at hk
    by_cases k2 : kx2 = 2
    · subst k2
      rw [if_pos rfl] at hk
      cases hk
      exact v_ofDc (pc := 5) (ek := 2) X [(0, 10, 13, 21)] [] rfl (List.forall_mem_cons.mpr ⟨⟨by decide, _, q1677, by decide +kernel⟩, fun _ hz => by cases hz⟩) (by decide) (by decide) q1572 q294 ⟨4, 2, 2, by decide, Or.inl ⟨dX0_setFeatures_17, rfl⟩, dX0_setFeatures_19, rfl, dX0_setFeatures_20⟩ (Nat.le_refl _) (Nat.le_refl _) (d_V (pc := 5) C (As := [.int a1, .int a2]) (rest := [.int (0 : Int32), va_rf a3]) rb1 kb1 nt_0 q2182 yi_X1_setFeatures_FigureSurvey yk_X1_setFeatures rfl (by decide) (by decide) (Nat.le_trans (aw_i (aw_r aw_0)) (by decide)) rfl (mX1_setFeatures C.st ex2) dX0_setFeatures_5)
    rw [if_neg k2] at hk
    cases hk
  refine v_call (pc := 5) (d_V (pc := 5) C (As := [.int a1, .int a2]) (rest := [.int (0 : Int32), va_rf a3]) rb1 kb1 nt_0 q2182 yi_X1_setFeatures_FigureSurvey yk_X1_setFeatures rfl (by decide) (by decide) (Nat.le_trans (aw_i (aw_r aw_0)) (by decide)) rfl (mX1_setFeatures C.st ex2) dX0_setFeatures_5) ?_
  refine v_i2l (pc := 8) C dX0_setFeatures_8 ?_
  obtain ⟨h4, eh4, hf⟩ := oB hf
  refine v_lastore (pc := 9) C eh4 dX0_setFeatures_9 ?_
  refine v_goto (pc := 10) (tgt := 21) C dX0_setFeatures_10 rfl ?_
  refine v_iconst (pc := 21) (v := (0 : Int32)) C dX0_setFeatures_21 rfl ?_
  cases hf
  exact v_wret (pc := 22) X dX0_setFeatures_22
theorem mX0_setFeatures {l : Launch} {D : aD} {h : aH} {a0 : Option Nat} {a1 : Int32} {a2 : Int32} {a3 : Option Nat} {q : Int32} {g : aH} (hst : l.stackTraces = false) (hf : fX0_setFeatures D h a0 a1 a2 a3 = some (q, g)) : aMw l D yX0_setFeatures cX0_setFeatures 5 [(0, 10, 13, 21), (0, 10, 17, 13)] 9 147 [va_rf a0, .int a1, .int a2, va_rf a3] h q g :=
  aMw.of [(false, va_rf a0), (false, .int a1), (false, .int a2), (false, va_rf a3)] rfl (ap_r (ap_c rfl (ap_c rfl (ap_r ap_0)))) (by decide +kernel) hst (al_of (aw_r (aw_i (aw_i (aw_r aw_0)))) (by decide)) fun p e s m args below meth c X => V.sub (lv' := [(0, false, va_rf a0), (1, false, .int a1), (2, false, .int a2), (3, false, va_rf a3)]) [0, 1, 2, 3] rfl (vX0_setFeatures X hf)
def fX0_addStyle (D : aD) (h : aH) (a0 : Option Nat) (a1 : Int32) (a2 : Option Nat) : Option (Int32 × aH) :=
  (aIs h 0 a0).bind fun _ =>
  bndW (fX1_addStyle D h a0 a1) (fun k => if k = 2 then some (1 : Int32) else if k = 3 then some (2 : Int32) else none) fun x2 h3 =>
  (sF D h3 101 a2 (0 : Int32) (.long x2.toInt64)).bind fun h4 =>
  some ((0 : Int32), h4)
theorem vX0_addStyle {h : aH} {a0 : Option Nat} {a1 : Int32} {a2 : Option Nat} {q : Int32} {g : aH} (X : aXw p l R s m meth c D n0 s0 yX0_addStyle cX0_addStyle 8 173 4 [(0, 9, 12, 13), (0, 9, 15, 15)] h) (hf : fX0_addStyle D h a0 a1 a2 = some (q, g)) : V p l e R s m args below meth c D n0 s0 (aEndw D below args s h q g) h 0 [(0, false, va_rf a0), (1, false, .int a1), (2, false, va_rf a2)] [] := by
  have C := X.1
  unfold fX0_addStyle at hf
  refine v_aload_n (pc := 0) (j := 2) C dX0_addStyle_0 rfl rfl ?_
  refine v_iconst (pc := 1) (v := (0 : Int32)) C dX0_addStyle_1 rfl ?_
  refine v_aload_n (pc := 2) (j := 0) C dX0_addStyle_2 rfl rfl ?_
  refine v_iload_n (pc := 3) (j := 1) C dX0_addStyle_3 rfl rfl ?_
  obtain ⟨b1, eb1, hf⟩ := oB hf
  obtain ⟨rb1, _, kb1⟩ := aIs_eq eb1
  rcases bndW_eq hf with ⟨kx2, cx2, gx2, ex2, hk, qx2⟩ | ⟨x2, h3, ex2, hf⟩
  · cases qx2
    by_cases k2 : kx2 = 2
    · subst k2
      rw [if_pos rfl] at hk
      cases hk
      exact v_ofDc (pc := 4) (ek := 2) X [] [(0, 9, 15, 15)] rfl (fun _ hz => by cases hz) (by decide) (by decide) q1572 q294 ⟨3, 1, 1, by decide, Or.inr ⟨3, rfl, dX0_addStyle_12, rfl⟩, dX0_addStyle_13, rfl, dX0_addStyle_14⟩ (Nat.le_refl _) (Nat.le_refl _) (d_V (pc := 4) C (As := [.int a1]) (rest := [.int (0 : Int32), va_rf a2]) rb1 kb1 nt_0 q2200 yi_X1_addStyle_FigureSurvey yk_X1_addStyle rfl (by decide) (by decide) (Nat.le_trans (aw_i (aw_r aw_0)) (by decide)) rfl (mX1_addStyle C.st ex2) dX0_addStyle_4)
    rw [if_neg k2] at hk
    by_cases k3 : kx2 = 3
    · subst k3
      rw [if_pos rfl] at hk
      cases hk
      exact v_ofDc (pc := 4) (ek := 3) X [(0, 9, 12, 13)] [] rfl (List.forall_mem_cons.mpr ⟨⟨by decide, _, q1572, by decide +kernel⟩, fun _ hz => by cases hz⟩) (by decide) (by decide) q1573 q1600 ⟨3, 1, 2, by decide, Or.inr ⟨3, rfl, dX0_addStyle_15, rfl⟩, dX0_addStyle_16, rfl, dX0_addStyle_17⟩ (Nat.le_refl _) (Nat.le_refl _) (d_V (pc := 4) C (As := [.int a1]) (rest := [.int (0 : Int32), va_rf a2]) rb1 kb1 nt_0 q2200 yi_X1_addStyle_FigureSurvey yk_X1_addStyle rfl (by decide) (by decide) (Nat.le_trans (aw_i (aw_r aw_0)) (by decide)) rfl (mX1_addStyle C.st ex2) dX0_addStyle_4)
    rw [if_neg k3] at hk
    cases hk
  refine v_call (pc := 4) (d_V (pc := 4) C (As := [.int a1]) (rest := [.int (0 : Int32), va_rf a2]) rb1 kb1 nt_0 q2200 yi_X1_addStyle_FigureSurvey yk_X1_addStyle rfl (by decide) (by decide) (Nat.le_trans (aw_i (aw_r aw_0)) (by decide)) rfl (mX1_addStyle C.st ex2) dX0_addStyle_4) ?_
  refine v_i2l (pc := 7) C dX0_addStyle_7 ?_
  obtain ⟨h4, eh4, hf⟩ := oB hf
  refine v_lastore (pc := 8) C eh4 dX0_addStyle_8 ?_
  refine v_goto (pc := 9) (tgt := 18) C dX0_addStyle_9 rfl ?_
  refine v_iconst (pc := 18) (v := (0 : Int32)) C dX0_addStyle_18 rfl ?_
  cases hf
  exact v_wret (pc := 19) X dX0_addStyle_19
theorem mX0_addStyle {l : Launch} {D : aD} {h : aH} {a0 : Option Nat} {a1 : Int32} {a2 : Option Nat} {q : Int32} {g : aH} (hst : l.stackTraces = false) (hf : fX0_addStyle D h a0 a1 a2 = some (q, g)) : aMw l D yX0_addStyle cX0_addStyle 4 [(0, 9, 12, 13), (0, 9, 15, 15)] 8 173 [va_rf a0, .int a1, va_rf a2] h q g :=
  aMw.of [(false, va_rf a0), (false, .int a1), (false, va_rf a2)] rfl (ap_r (ap_c rfl (ap_r ap_0))) (by decide +kernel) hst (al_of (aw_r (aw_i (aw_r aw_0))) (by decide)) fun p e s m args below meth c X => V.sub (lv' := [(0, false, va_rf a0), (1, false, .int a1), (2, false, va_rf a2)]) [0, 1, 2] rfl (vX0_addStyle X hf)
def fX0_styleOf (D : aD) (h : aH) (a0 : Option Nat) (a1 : Int32) (a2 : Option Nat) : Option (Int32 × aH) :=
  (aIs h 0 a0).bind fun _ =>
  bndW (fX1_styleOf D h a0 a1) (fun k => if k = 1 then some (1 : Int32) else none) fun x2 h3 =>
  (sF D h3 101 a2 (0 : Int32) (.long x2.toInt64)).bind fun h4 =>
  some ((0 : Int32), h4)
theorem vX0_styleOf {h : aH} {a0 : Option Nat} {a1 : Int32} {a2 : Option Nat} {q : Int32} {g : aH} (X : aXw p l R s m meth c D n0 s0 yX0_styleOf cX0_styleOf 9 145 4 [(0, 9, 12, 21)] h) (hf : fX0_styleOf D h a0 a1 a2 = some (q, g)) : V p l e R s m args below meth c D n0 s0 (aEndw D below args s h q g) h 0 [(0, false, va_rf a0), (1, false, .int a1), (2, false, va_rf a2)] [] := by
  have C := X.1
  unfold fX0_styleOf at hf
  refine v_aload_n (pc := 0) (j := 2) C dX0_styleOf_0 rfl rfl ?_
  refine v_iconst (pc := 1) (v := (0 : Int32)) C dX0_styleOf_1 rfl ?_
  refine v_aload_n (pc := 2) (j := 0) C dX0_styleOf_2 rfl rfl ?_
  refine v_iload_n (pc := 3) (j := 1) C dX0_styleOf_3 rfl rfl ?_
  obtain ⟨b1, eb1, hf⟩ := oB hf
  obtain ⟨rb1, _, kb1⟩ := aIs_eq eb1
  rcases bndW_eq hf with ⟨kx2, cx2, gx2, ex2, hk, qx2⟩ | ⟨x2, h3, ex2, hf⟩
  · cases qx2
    by_cases k1 : kx2 = 1
    · subst k1
      rw [if_pos rfl] at hk
      cases hk
      exact v_ofDc (pc := 4) (ek := 1) X [] [] rfl (fun _ hz => by cases hz) (by decide) (by decide) q1677 q1714 ⟨3, 1, 1, by decide, Or.inr ⟨3, rfl, dX0_styleOf_12, rfl⟩, dX0_styleOf_13, rfl, dX0_styleOf_14⟩ (Nat.le_refl _) (Nat.le_refl _) (d_V (pc := 4) C (As := [.int a1]) (rest := [.int (0 : Int32), va_rf a2]) rb1 kb1 nt_0 q2207 yi_X1_styleOf_FigureSurvey yk_X1_styleOf rfl (by decide) (by decide) (Nat.le_trans (aw_i (aw_r aw_0)) (by decide)) rfl (mX1_styleOf C.st ex2) dX0_styleOf_4)
    rw [if_neg k1] at hk
    cases hk
  refine v_call (pc := 4) (d_V (pc := 4) C (As := [.int a1]) (rest := [.int (0 : Int32), va_rf a2]) rb1 kb1 nt_0 q2207 yi_X1_styleOf_FigureSurvey yk_X1_styleOf rfl (by decide) (by decide) (Nat.le_trans (aw_i (aw_r aw_0)) (by decide)) rfl (mX1_styleOf C.st ex2) dX0_styleOf_4) ?_
  refine v_i2l (pc := 7) C dX0_styleOf_7 ?_
  obtain ⟨h4, eh4, hf⟩ := oB hf
  refine v_lastore (pc := 8) C eh4 dX0_styleOf_8 ?_
  refine v_goto (pc := 9) (tgt := 15) C dX0_styleOf_9 rfl ?_
  refine v_iconst (pc := 15) (v := (0 : Int32)) C dX0_styleOf_15 rfl ?_
  cases hf
  exact v_wret (pc := 16) X dX0_styleOf_16
theorem mX0_styleOf {l : Launch} {D : aD} {h : aH} {a0 : Option Nat} {a1 : Int32} {a2 : Option Nat} {q : Int32} {g : aH} (hst : l.stackTraces = false) (hf : fX0_styleOf D h a0 a1 a2 = some (q, g)) : aMw l D yX0_styleOf cX0_styleOf 4 [(0, 9, 12, 21)] 9 145 [va_rf a0, .int a1, va_rf a2] h q g :=
  aMw.of [(false, va_rf a0), (false, .int a1), (false, va_rf a2)] rfl (ap_r (ap_c rfl (ap_r ap_0))) (by decide +kernel) hst (al_of (aw_r (aw_i (aw_r aw_0))) (by decide)) fun p e s m args below meth c X => V.sub (lv' := [(0, false, va_rf a0), (1, false, .int a1), (2, false, va_rf a2)]) [0, 1, 2] rfl (vX0_styleOf X hf)
def fX0_tellName (D : aD) (h : aH) (a0 : Option Nat) (a1 : Int32) (a2 : Int32) (a3 : Int32) (a4 : Int32) (a5 : Option Nat) : Option (Int32 × aH) :=
  (aIs h 0 a0).bind fun _ =>
  bndW (fX1_tellName D h a0 a1 a2 a3 a4) (fun k => if k = 1 then some (1 : Int32) else if k = 2 then some (2 : Int32) else if k = 3 then some (3 : Int32) else none) fun x2 h3 =>
  (sF D h3 101 a5 (0 : Int32) (.long x2.toInt64)).bind fun h4 =>
  some ((0 : Int32), h4)
theorem vX0_tellName {h : aH} {a0 : Option Nat} {a1 : Int32} {a2 : Int32} {a3 : Int32} {a4 : Int32} {a5 : Option Nat} {q : Int32} {g : aH} (X : aXw p l R s m meth c D n0 s0 yX0_tellName cX0_tellName 9 177 7 [(0, 14, 17, 21), (0, 14, 21, 13), (0, 14, 25, 15)] h) (hf : fX0_tellName D h a0 a1 a2 a3 a4 a5 = some (q, g)) : V p l e R s m args below meth c D n0 s0 (aEndw D below args s h q g) h 0 [(0, false, va_rf a0), (1, false, .int a1), (2, false, .int a2), (3, false, .int a3), (4, false, .int a4), (5, false, va_rf a5)] [] := by
  have C := X.1
  unfold fX0_tellName at hf
  refine v_aload (pc := 0) (j := 5) C dX0_tellName_0 rfl ?_
  refine v_iconst (pc := 2) (v := (0 : Int32)) C dX0_tellName_2 rfl ?_
  refine v_aload_n (pc := 3) (j := 0) C dX0_tellName_3 rfl rfl ?_
  refine v_iload_n (pc := 4) (j := 1) C dX0_tellName_4 rfl rfl ?_
  refine v_iload_n (pc := 5) (j := 2) C dX0_tellName_5 rfl rfl ?_
  refine v_iload_n (pc := 6) (j := 3) C dX0_tellName_6 rfl rfl ?_
  refine v_iload (pc := 7) (j := 4) C dX0_tellName_7 rfl ?_
  obtain ⟨b1, eb1, hf⟩ := oB hf
  obtain ⟨rb1, _, kb1⟩ := aIs_eq eb1
  rcases bndW_eq hf with ⟨kx2, cx2, gx2, ex2, hk, qx2⟩ | ⟨x2, h3, ex2, hf⟩
  · cases qx2
    by_cases k1 : kx2 = 1
    · subst k1
      rw [if_pos rfl] at hk
      cases hk
      exact v_ofDc (pc := 9) (ek := 1) X [] [(0, 14, 21, 13), (0, 14, 25, 15)] rfl (fun _ hz => by cases hz) (by decide) (by decide) q1677 q1714 ⟨6, 2, 1, by decide, Or.inl ⟨dX0_tellName_17, rfl⟩, dX0_tellName_19, rfl, dX0_tellName_20⟩ (Nat.le_refl _) (Nat.le_refl _) (d_V (pc := 9) C (As := [.int a1, .int a2, .int a3, .int a4]) (rest := [.int (0 : Int32), va_rf a5]) rb1 kb1 nt_0 q2250 yi_X1_tellName_FigureSurvey yk_X1_tellName rfl (by decide) (by decide) (Nat.le_trans (aw_i (aw_r aw_0)) (by decide)) rfl (mX1_tellName C.st ex2) dX0_tellName_9)
    rw [if_neg k1] at hk
    by_cases k2 : kx2 = 2
    · subst k2
      rw [if_pos rfl] at hk
      cases hk
      exact v_ofDc (pc := 9) (ek := 2) X [(0, 14, 17, 21)] [(0, 14, 25, 15)] rfl (List.forall_mem_cons.mpr ⟨⟨by decide, _, q1677, by decide +kernel⟩, fun _ hz => by cases hz⟩) (by decide) (by decide) q1572 q294 ⟨6, 2, 2, by decide, Or.inl ⟨dX0_tellName_21, rfl⟩, dX0_tellName_23, rfl, dX0_tellName_24⟩ (Nat.le_refl _) (Nat.le_refl _) (d_V (pc := 9) C (As := [.int a1, .int a2, .int a3, .int a4]) (rest := [.int (0 : Int32), va_rf a5]) rb1 kb1 nt_0 q2250 yi_X1_tellName_FigureSurvey yk_X1_tellName rfl (by decide) (by decide) (Nat.le_trans (aw_i (aw_r aw_0)) (by decide)) rfl (mX1_tellName C.st ex2) dX0_tellName_9)
    rw [if_neg k2] at hk
    by_cases k3 : kx2 = 3
    · subst k3
      rw [if_pos rfl] at hk
      cases hk
      exact v_ofDc (pc := 9) (ek := 3) X [(0, 14, 17, 21), (0, 14, 21, 13)] [] rfl (List.forall_mem_cons.mpr ⟨⟨by decide, _, q1677, by decide +kernel⟩, List.forall_mem_cons.mpr ⟨⟨by decide, _, q1572, by decide +kernel⟩, fun _ hz => by cases hz⟩⟩) (by decide) (by decide) q1573 q1600 ⟨6, 2, 3, by decide, Or.inl ⟨dX0_tellName_25, rfl⟩, dX0_tellName_27, rfl, dX0_tellName_28⟩ (Nat.le_refl _) (Nat.le_refl _) (d_V (pc := 9) C (As := [.int a1, .int a2, .int a3, .int a4]) (rest := [.int (0 : Int32), va_rf a5]) rb1 kb1 nt_0 q2250 yi_X1_tellName_FigureSurvey yk_X1_tellName rfl (by decide) (by decide) (Nat.le_trans (aw_i (aw_r aw_0)) (by decide)) rfl (mX1_tellName C.st ex2) dX0_tellName_9)
    rw [if_neg k3] at hk
    cases hk
  refine v_call (pc := 9) (d_V (pc := 9) C (As := [.int a1, .int a2, .int a3, .int a4]) (rest := [.int (0 : Int32), va_rf a5]) rb1 kb1 nt_0 q2250 yi_X1_tellName_FigureSurvey yk_X1_tellName rfl (by decide) (by decide) (Nat.le_trans (aw_i (aw_r aw_0)) (by decide)) rfl (mX1_tellName C.st ex2) dX0_tellName_9) ?_
  refine v_i2l (pc := 12) C dX0_tellName_12 ?_
  obtain ⟨h4, eh4, hf⟩ := oB hf
  refine v_lastore (pc := 13) C eh4 dX0_tellName_13 ?_
  refine v_goto (pc := 14) (tgt := 29) C dX0_tellName_14 rfl ?_
  refine v_iconst (pc := 29) (v := (0 : Int32)) C dX0_tellName_29 rfl ?_
  cases hf
  exact v_wret (pc := 30) X dX0_tellName_30
theorem mX0_tellName {l : Launch} {D : aD} {h : aH} {a0 : Option Nat} {a1 : Int32} {a2 : Int32} {a3 : Int32} {a4 : Int32} {a5 : Option Nat} {q : Int32} {g : aH} (hst : l.stackTraces = false) (hf : fX0_tellName D h a0 a1 a2 a3 a4 a5 = some (q, g)) : aMw l D yX0_tellName cX0_tellName 7 [(0, 14, 17, 21), (0, 14, 21, 13), (0, 14, 25, 15)] 9 177 [va_rf a0, .int a1, .int a2, .int a3, .int a4, va_rf a5] h q g :=
  aMw.of [(false, va_rf a0), (false, .int a1), (false, .int a2), (false, .int a3), (false, .int a4), (false, va_rf a5)] rfl (ap_r (ap_c rfl (ap_c rfl (ap_c rfl (ap_c rfl (ap_r ap_0)))))) (by decide +kernel) hst (al_of (aw_r (aw_i (aw_i (aw_i (aw_i (aw_r aw_0)))))) (by decide)) fun p e s m args below meth c X => V.sub (lv' := [(0, false, va_rf a0), (1, false, .int a1), (2, false, .int a2), (3, false, .int a3), (4, false, .int a4), (5, false, va_rf a5)]) [0, 1, 2, 3, 4, 5] rfl (vX0_tellName X hf)
def fX0_nameFor (D : aD) (h : aH) (a0 : Option Nat) (a1 : Int32) (a2 : Int32) (a3 : Int32) (a4 : Option Nat) : Option (Int32 × aH) :=
  (aIs h 0 a0).bind fun _ =>
  bndW (fX1_nameFor D h a0 a1 a2 a3) (fun k => if k = 1 then some (1 : Int32) else if k = 2 then some (2 : Int32) else none) fun x2 h3 =>
  (sF D h3 101 a4 (0 : Int32) (.long x2.toInt64)).bind fun h4 =>
  some ((0 : Int32), h4)
theorem vX0_nameFor {h : aH} {a0 : Option Nat} {a1 : Int32} {a2 : Int32} {a3 : Int32} {a4 : Option Nat} {q : Int32} {g : aH} (X : aXw p l R s m meth c D n0 s0 yX0_nameFor cX0_nameFor 9 150 6 [(0, 12, 15, 21), (0, 12, 19, 13)] h) (hf : fX0_nameFor D h a0 a1 a2 a3 a4 = some (q, g)) : V p l e R s m args below meth c D n0 s0 (aEndw D below args s h q g) h 0 [(0, false, va_rf a0), (1, false, .int a1), (2, false, .int a2), (3, false, .int a3), (4, false, va_rf a4)] [] := by
  have C := X.1
  unfold fX0_nameFor at hf
  refine v_aload (pc := 0) (j := 4) C dX0_nameFor_0 rfl ?_
  refine v_iconst (pc := 2) (v := (0 : Int32)) C dX0_nameFor_2 rfl ?_
  refine v_aload_n (pc := 3) (j := 0) C dX0_nameFor_3 rfl rfl ?_
  refine v_iload_n (pc := 4) (j := 1) C dX0_nameFor_4 rfl rfl ?_
  refine v_iload_n (pc := 5) (j := 2) C dX0_nameFor_5 rfl rfl ?_
  refine v_iload_n (pc := 6) (j := 3) C dX0_nameFor_6 rfl rfl ?_
  obtain ⟨b1, eb1, hf⟩ := oB hf
  obtain ⟨rb1, _, kb1⟩ := aIs_eq eb1
  rcases bndW_eq hf with ⟨kx2, cx2, gx2, ex2, hk, qx2⟩ | ⟨x2, h3, ex2, hf⟩
  · cases qx2
    by_cases k1 : kx2 = 1
    · subst k1
      rw [if_pos rfl] at hk
      cases hk
      exact v_ofDc (pc := 7) (ek := 1) X [] [(0, 12, 19, 13)] rfl (fun _ hz => by cases hz) (by decide) (by decide) q1677 q1714 ⟨5, 2, 1, by decide, Or.inl ⟨dX0_nameFor_15, rfl⟩, dX0_nameFor_17, rfl, dX0_nameFor_18⟩ (Nat.le_refl _) (Nat.le_refl _) (d_V (pc := 7) C (As := [.int a1, .int a2, .int a3]) (rest := [.int (0 : Int32), va_rf a4]) rb1 kb1 nt_0 q2276 yi_X1_nameFor_FigureSurvey yk_X1_nameFor rfl (by decide) (by decide) (Nat.le_trans (aw_i (aw_r aw_0)) (by decide)) rfl (mX1_nameFor C.st ex2) dX0_nameFor_7)
    rw [if_neg k1] at hk
    by_cases k2 : kx2 = 2
    · subst k2
      rw [if_pos rfl] at hk
      cases hk
      exact v_ofDc (pc := 7) (ek := 2) X [(0, 12, 15, 21)] [] rfl (List.forall_mem_cons.mpr ⟨⟨by decide, _, q1677, by decide +kernel⟩, fun _ hz => by cases hz⟩) (by decide) (by decide) q1572 q294 ⟨5, 2, 2, by decide, Or.inl ⟨dX0_nameFor_19, rfl⟩, dX0_nameFor_21, rfl, dX0_nameFor_22⟩ (Nat.le_refl _) (Nat.le_refl _) (d_V (pc := 7) C (As := [.int a1, .int a2, .int a3]) (rest := [.int (0 : Int32), va_rf a4]) rb1 kb1 nt_0 q2276 yi_X1_nameFor_FigureSurvey yk_X1_nameFor rfl (by decide) (by decide) (Nat.le_trans (aw_i (aw_r aw_0)) (by decide)) rfl (mX1_nameFor C.st ex2) dX0_nameFor_7)
    rw [if_neg k2] at hk
    cases hk
  refine v_call (pc := 7) (d_V (pc := 7) C (As := [.int a1, .int a2, .int a3]) (rest := [.int (0 : Int32), va_rf a4]) rb1 kb1 nt_0 q2276 yi_X1_nameFor_FigureSurvey yk_X1_nameFor rfl (by decide) (by decide) (Nat.le_trans (aw_i (aw_r aw_0)) (by decide)) rfl (mX1_nameFor C.st ex2) dX0_nameFor_7) ?_
  refine v_i2l (pc := 10) C dX0_nameFor_10 ?_
  obtain ⟨h4, eh4, hf⟩ := oB hf
  refine v_lastore (pc := 11) C eh4 dX0_nameFor_11 ?_
  refine v_goto (pc := 12) (tgt := 23) C dX0_nameFor_12 rfl ?_
  refine v_iconst (pc := 23) (v := (0 : Int32)) C dX0_nameFor_23 rfl ?_
  cases hf
  exact v_wret (pc := 24) X dX0_nameFor_24
theorem mX0_nameFor {l : Launch} {D : aD} {h : aH} {a0 : Option Nat} {a1 : Int32} {a2 : Int32} {a3 : Int32} {a4 : Option Nat} {q : Int32} {g : aH} (hst : l.stackTraces = false) (hf : fX0_nameFor D h a0 a1 a2 a3 a4 = some (q, g)) : aMw l D yX0_nameFor cX0_nameFor 6 [(0, 12, 15, 21), (0, 12, 19, 13)] 9 150 [va_rf a0, .int a1, .int a2, .int a3, va_rf a4] h q g :=
  aMw.of [(false, va_rf a0), (false, .int a1), (false, .int a2), (false, .int a3), (false, va_rf a4)] rfl (ap_r (ap_c rfl (ap_c rfl (ap_c rfl (ap_r ap_0))))) (by decide +kernel) hst (al_of (aw_r (aw_i (aw_i (aw_i (aw_r aw_0))))) (by decide)) fun p e s m args below meth c X => V.sub (lv' := [(0, false, va_rf a0), (1, false, .int a1), (2, false, .int a2), (3, false, .int a3), (4, false, va_rf a4)]) [0, 1, 2, 3, 4] rfl (vX0_nameFor X hf)
def fX0_setRight_p18 (D : aD) (h : aH) (t0 : Option Nat) (t1 : Int32) (t2 : Int64) : Option (Int32 × aH) :=
  (sF D h 101 t0 t1 (.long t2)).bind fun h1 =>
  some ((0 : Int32), h1)
theorem vX0_setRight_p18 {h : aH} {t0 : Option Nat} {t1 : Int32} {t2 : Int64} {q : Int32} {g : aH} (X : aXw p l R s m meth c D n0 s0 yX0_setRight cX0_setRight 9 149 6 [(0, 19, 22, 21), (0, 19, 26, 13)] h0) (hf : fX0_setRight_p18 D h t0 t1 t2 = some (q, g)) : V p l e R s m args below meth c D n0 s0 (aEndw D below args s h0 q g) h 18 [] [.long t2, .int t1, va_rf t0] := by
  have C := X.1
  unfold fX0_setRight_p18 at hf
  obtain ⟨h1, eh1, hf⟩ := oB hf
  refine v_lastore (pc := 18) C eh1 dX0_setRight_18 ?_
  refine v_goto (pc := 19) (tgt := 30) C dX0_setRight_19 rfl ?_
  refine v_iconst (pc := 30) (v := (0 : Int32)) C dX0_setRight_30 rfl ?_
  cases hf
  exact v_wret (pc := 31) X dX0_setRight_31
def fX0_setRight (D : aD) (h : aH) (a0 : Option Nat) (a1 : Int32) (a2 : Int32) (a3 : Int32) (a4 : Option Nat) : Option (Int32 × aH) :=
  (aIs h 0 a0).bind fun _ =>
  bndW (fX1_setRight D h a0 a1 a2 a3) (fun k => if k = 1 then some (1 : Int32) else if k = 2 then some (2 : Int32) else none) fun x2 h3 =>
  fX0_setRight_p18 D h3 a4 (0 : Int32) (if x2 = 0 then (0 : Int64) else (1 : Int64))
theorem vX0_setRight {h : aH} {a0 : Option Nat} {a1 : Int32} {a2 : Int32} {a3 : Int32} {a4 : Option Nat} {q : Int32} {g : aH} (X : aXw p l R s m meth c D n0 s0 yX0_setRight cX0_setRight 9 149 6 [(0, 19, 22, 21), (0, 19, 26, 13)] h) (hf : fX0_setRight D h a0 a1 a2 a3 a4 = some (q, g)) : V p l e R s m args below meth c D n0 s0 (aEndw D below args s h q g) h 0 [(0, false, va_rf a0), (1, false, .int a1), (2, false, .int a2), (3, false, .int a3), (4, false, va_rf a4)] [] := by
  have C := X.1
  unfold fX0_setRight at hf
  refine v_aload (pc := 0) (j := 4) C dX0_setRight_0 rfl ?_
  refine v_iconst (pc := 2) (v := (0 : Int32)) C dX0_setRight_2 rfl ?_
  refine v_aload_n (pc := 3) (j := 0) C dX0_setRight_3 rfl rfl ?_
  refine v_iload_n (pc := 4) (j := 1) C dX0_setRight_4 rfl rfl ?_
  refine v_iload_n (pc := 5) (j := 2) C dX0_setRight_5 rfl rfl ?_
  refine v_iload_n (pc := 6) (j := 3) C dX0_setRight_6 rfl rfl ?_
  obtain ⟨b1, eb1, hf⟩ := oB hf
  obtain ⟨rb1, _, kb1⟩ := aIs_eq eb1
  rcases bndW_eq hf with ⟨kx2, cx2, gx2, ex2, hk, qx2⟩ | ⟨x2, h3, ex2, hf⟩
  · cases qx2
    by_cases k1 : kx2 = 1
    · subst k1
      rw [if_pos rfl] at hk
      cases hk
      exact v_ofDc (pc := 7) (ek := 1) X [] [(0, 19, 26, 13)] rfl (fun _ hz => by cases hz) (by decide) (by decide) q1677 q1714 ⟨5, 2, 1, by decide, Or.inl ⟨dX0_setRight_22, rfl⟩, dX0_setRight_24, rfl, dX0_setRight_25⟩ (Nat.le_refl _) (Nat.le_refl _) (d_V (pc := 7) C (As := [.int a1, .int a2, .int a3]) (rest := [.int (0 : Int32), va_rf a4]) rb1 kb1 nt_0 q2295 yi_X1_setRight_FigureSurvey yk_X1_setRight rfl (by decide) (by decide) (Nat.le_trans (aw_i (aw_r aw_0)) (by decide)) rfl (mX1_setRight C.st ex2) dX0_setRight_7)
    rw [if_neg k1] at hk
    by_cases k2 : kx2 = 2
    · subst k2
      rw [if_pos rfl] at hk
      cases hk
      exact v_ofDc (pc := 7) (ek := 2) X [(0, 19, 22, 21)] [] rfl (List.forall_mem_cons.mpr ⟨⟨by decide, _, q1677, by decide +kernel⟩, fun _ hz => by cases hz⟩) (by decide) (by decide) q1572 q294 ⟨5, 2, 2, by decide, Or.inl ⟨dX0_setRight_26, rfl⟩, dX0_setRight_28, rfl, dX0_setRight_29⟩ (Nat.le_refl _) (Nat.le_refl _) (d_V (pc := 7) C (As := [.int a1, .int a2, .int a3]) (rest := [.int (0 : Int32), va_rf a4]) rb1 kb1 nt_0 q2295 yi_X1_setRight_FigureSurvey yk_X1_setRight rfl (by decide) (by decide) (Nat.le_trans (aw_i (aw_r aw_0)) (by decide)) rfl (mX1_setRight C.st ex2) dX0_setRight_7)
    rw [if_neg k2] at hk
    cases hk
  refine v_call (pc := 7) (d_V (pc := 7) C (As := [.int a1, .int a2, .int a3]) (rest := [.int (0 : Int32), va_rf a4]) rb1 kb1 nt_0 q2295 yi_X1_setRight_FigureSurvey yk_X1_setRight rfl (by decide) (by decide) (Nat.le_trans (aw_i (aw_r aw_0)) (by decide)) rfl (mX1_setRight C.st ex2) dX0_setRight_7) ?_
  refine v_if_eq (pc := 10) (tgt := 17) C dX0_setRight_10 rfl (fun hc => ?_) (fun hc => ?_)
  · simp only [if_pos hc] at hf
    refine v_lconst (pc := 17) (v := (0 : Int64)) C dX0_setRight_17 rfl ?_
    exact V.sub [] rfl (vX0_setRight_p18 X hf)
  · simp only [if_neg hc] at hf
    refine v_lconst (pc := 13) (v := (1 : Int64)) C dX0_setRight_13 rfl ?_
    refine v_goto (pc := 14) (tgt := 18) C dX0_setRight_14 rfl ?_
    exact V.sub [] rfl (vX0_setRight_p18 X hf)
theorem mX0_setRight {l : Launch} {D : aD} {h : aH} {a0 : Option Nat} {a1 : Int32} {a2 : Int32} {a3 : Int32} {a4 : Option Nat} {q : Int32} {g : aH} (hst : l.stackTraces = false) (hf : fX0_setRight D h a0 a1 a2 a3 a4 = some (q, g)) : aMw l D yX0_setRight cX0_setRight 6 [(0, 19, 22, 21), (0, 19, 26, 13)] 9 149 [va_rf a0, .int a1, .int a2, .int a3, va_rf a4] h q g :=
  aMw.of [(false, va_rf a0), (false, .int a1), (false, .int a2), (false, .int a3), (false, va_rf a4)] rfl (ap_r (ap_c rfl (ap_c rfl (ap_c rfl (ap_r ap_0))))) (by decide +kernel) hst (al_of (aw_r (aw_i (aw_i (aw_i (aw_r aw_0))))) (by decide)) fun p e s m args below meth c X => V.sub (lv' := [(0, false, va_rf a0), (1, false, .int a1), (2, false, .int a2), (3, false, .int a3), (4, false, va_rf a4)]) [0, 1, 2, 3, 4] rfl (vX0_setRight X hf)
def fX0_passYears (D : aD) (h : aH) (a0 : Option Nat) (a1 : Int32) (a2 : Option Nat) : Option (Int32 × aH) :=
  (aIs h 0 a0).bind fun _ =>
  bndW (fX1_passYears D h a0 a1) (fun k => if k = 2 then some (1 : Int32) else if k = 3 then some (2 : Int32) else none) fun x2 h3 =>
  (sF D h3 101 a2 (0 : Int32) (.long x2.toInt64)).bind fun h4 =>
  some ((0 : Int32), h4)
theorem vX0_passYears {h : aH} {a0 : Option Nat} {a1 : Int32} {a2 : Option Nat} {q : Int32} {g : aH} (X : aXw p l R s m meth c D n0 s0 yX0_passYears cX0_passYears 8 128 4 [(0, 9, 12, 13), (0, 9, 15, 15)] h) (hf : fX0_passYears D h a0 a1 a2 = some (q, g)) : V p l e R s m args below meth c D n0 s0 (aEndw D below args s h q g) h 0 [(0, false, va_rf a0), (1, false, .int a1), (2, false, va_rf a2)] [] := by
  have C := X.1
  unfold fX0_passYears at hf
  refine v_aload_n (pc := 0) (j := 2) C dX0_passYears_0 rfl rfl ?_
  refine v_iconst (pc := 1) (v := (0 : Int32)) C dX0_passYears_1 rfl ?_
  refine v_aload_n (pc := 2) (j := 0) C dX0_passYears_2 rfl rfl ?_
  refine v_iload_n (pc := 3) (j := 1) C dX0_passYears_3 rfl rfl ?_
  obtain ⟨b1, eb1, hf⟩ := oB hf
  obtain ⟨rb1, _, kb1⟩ := aIs_eq eb1
  rcases bndW_eq hf with ⟨kx2, cx2, gx2, ex2, hk, qx2⟩ | ⟨x2, h3, ex2, hf⟩
  · cases qx2
    by_cases k2 : kx2 = 2
    · subst k2
      rw [if_pos rfl] at hk
      cases hk
      exact v_ofDc (pc := 4) (ek := 2) X [] [(0, 9, 15, 15)] rfl (fun _ hz => by cases hz) (by decide) (by decide) q1572 q294 ⟨3, 1, 1, by decide, Or.inr ⟨3, rfl, dX0_passYears_12, rfl⟩, dX0_passYears_13, rfl, dX0_passYears_14⟩ (Nat.le_refl _) (Nat.le_refl _) (d_V (pc := 4) C (As := [.int a1]) (rest := [.int (0 : Int32), va_rf a2]) rb1 kb1 nt_0 q2309 yi_X1_passYears_FigureSurvey yk_X1_passYears rfl (by decide) (by decide) (Nat.le_trans (aw_i (aw_r aw_0)) (by decide)) rfl (mX1_passYears C.st ex2) dX0_passYears_4)
    rw [if_neg k2] at hk
    by_cases k3 : kx2 = 3
    · subst k3
      rw [if_pos rfl] at hk
      cases hk
      exact v_ofDc (pc := 4) (ek := 3) X [(0, 9, 12, 13)] [] rfl (List.forall_mem_cons.mpr ⟨⟨by decide, _, q1572, by decide +kernel⟩, fun _ hz => by cases hz⟩) (by decide) (by decide) q1573 q1600 ⟨3, 1, 2, by decide, Or.inr ⟨3, rfl, dX0_passYears_15, rfl⟩, dX0_passYears_16, rfl, dX0_passYears_17⟩ (Nat.le_refl _) (Nat.le_refl _) (d_V (pc := 4) C (As := [.int a1]) (rest := [.int (0 : Int32), va_rf a2]) rb1 kb1 nt_0 q2309 yi_X1_passYears_FigureSurvey yk_X1_passYears rfl (by decide) (by decide) (Nat.le_trans (aw_i (aw_r aw_0)) (by decide)) rfl (mX1_passYears C.st ex2) dX0_passYears_4)
    rw [if_neg k3] at hk
    cases hk
  refine v_call (pc := 4) (d_V (pc := 4) C (As := [.int a1]) (rest := [.int (0 : Int32), va_rf a2]) rb1 kb1 nt_0 q2309 yi_X1_passYears_FigureSurvey yk_X1_passYears rfl (by decide) (by decide) (Nat.le_trans (aw_i (aw_r aw_0)) (by decide)) rfl (mX1_passYears C.st ex2) dX0_passYears_4) ?_
  refine v_i2l (pc := 7) C dX0_passYears_7 ?_
  obtain ⟨h4, eh4, hf⟩ := oB hf
  refine v_lastore (pc := 8) C eh4 dX0_passYears_8 ?_
  refine v_goto (pc := 9) (tgt := 18) C dX0_passYears_9 rfl ?_
  refine v_iconst (pc := 18) (v := (0 : Int32)) C dX0_passYears_18 rfl ?_
  cases hf
  exact v_wret (pc := 19) X dX0_passYears_19
theorem mX0_passYears {l : Launch} {D : aD} {h : aH} {a0 : Option Nat} {a1 : Int32} {a2 : Option Nat} {q : Int32} {g : aH} (hst : l.stackTraces = false) (hf : fX0_passYears D h a0 a1 a2 = some (q, g)) : aMw l D yX0_passYears cX0_passYears 4 [(0, 9, 12, 13), (0, 9, 15, 15)] 8 128 [va_rf a0, .int a1, va_rf a2] h q g :=
  aMw.of [(false, va_rf a0), (false, .int a1), (false, va_rf a2)] rfl (ap_r (ap_c rfl (ap_r ap_0))) (by decide +kernel) hst (al_of (aw_r (aw_i (aw_r aw_0))) (by decide)) fun p e s m args below meth c X => V.sub (lv' := [(0, false, va_rf a0), (1, false, .int a1), (2, false, va_rf a2)]) [0, 1, 2] rfl (vX0_passYears X hf)
def fX0_setDecay (D : aD) (h : aH) (a0 : Option Nat) (a1 : Int32) (a2 : Int32) (a3 : Int32) (a4 : Int32) (a5 : Option Nat) : Option (Int32 × aH) :=
  (aIs h 0 a0).bind fun _ =>
  bndW (fX1_setDecay D h a0 a1 a2 a3 a4) (fun k => if k = 1 then some (1 : Int32) else if k = 2 then some (2 : Int32) else none) fun x2 h3 =>
  (sF D h3 101 a5 (0 : Int32) (.long x2.toInt64)).bind fun h4 =>
  some ((0 : Int32), h4)
theorem vX0_setDecay {h : aH} {a0 : Option Nat} {a1 : Int32} {a2 : Int32} {a3 : Int32} {a4 : Int32} {a5 : Option Nat} {q : Int32} {g : aH} (X : aXw p l R s m meth c D n0 s0 yX0_setDecay cX0_setDecay 9 149 7 [(0, 14, 17, 21), (0, 14, 21, 13)] h) (hf : fX0_setDecay D h a0 a1 a2 a3 a4 a5 = some (q, g)) : V p l e R s m args below meth c D n0 s0 (aEndw D below args s h q g) h 0 [(0, false, va_rf a0), (1, false, .int a1), (2, false, .int a2), (3, false, .int a3), (4, false, .int a4), (5, false, va_rf a5)] [] := by
  have C := X.1
  unfold fX0_setDecay at hf
  refine v_aload (pc := 0) (j := 5) C dX0_setDecay_0 rfl ?_
  refine v_iconst (pc := 2) (v := (0 : Int32)) C dX0_setDecay_2 rfl ?_
  refine v_aload_n (pc := 3) (j := 0) C dX0_setDecay_3 rfl rfl ?_
  refine v_iload_n (pc := 4) (j := 1) C dX0_setDecay_4 rfl rfl ?_
  refine v_iload_n (pc := 5) (j := 2) C dX0_setDecay_5 rfl rfl ?_
  refine v_iload_n (pc := 6) (j := 3) C dX0_setDecay_6 rfl rfl ?_
  refine v_iload (pc := 7) (j := 4) C dX0_setDecay_7 rfl ?_
  obtain ⟨b1, eb1, hf⟩ := oB hf
  obtain ⟨rb1, _, kb1⟩ := aIs_eq eb1
  rcases bndW_eq hf with ⟨kx2, cx2, gx2, ex2, hk, qx2⟩ | ⟨x2, h3, ex2, hf⟩
  · cases qx2
    by_cases k1 : kx2 = 1
    · subst k1
      rw [if_pos rfl] at hk
      cases hk
      exact v_ofDc (pc := 9) (ek := 1) X [] [(0, 14, 21, 13)] rfl (fun _ hz => by cases hz) (by decide) (by decide) q1677 q1714 ⟨6, 2, 1, by decide, Or.inl ⟨dX0_setDecay_17, rfl⟩, dX0_setDecay_19, rfl, dX0_setDecay_20⟩ (Nat.le_refl _) (Nat.le_refl _) (d_V (pc := 9) C (As := [.int a1, .int a2, .int a3, .int a4]) (rest := [.int (0 : Int32), va_rf a5]) rb1 kb1 nt_0 q2322 yi_X1_setDecay_FigureSurvey yk_X1_setDecay rfl (by decide) (by decide) (Nat.le_trans (aw_i (aw_r aw_0)) (by decide)) rfl (mX1_setDecay C.st ex2) dX0_setDecay_9)
    rw [if_neg k1] at hk
    by_cases k2 : kx2 = 2
    · subst k2
      rw [if_pos rfl] at hk
      cases hk
      exact v_ofDc (pc := 9) (ek := 2) X [(0, 14, 17, 21)] [] rfl (List.forall_mem_cons.mpr ⟨⟨by decide, _, q1677, by decide +kernel⟩, fun _ hz => by cases hz⟩) (by decide) (by decide) q1572 q294 ⟨6, 2, 2, by decide, Or.inl ⟨dX0_setDecay_21, rfl⟩, dX0_setDecay_23, rfl, dX0_setDecay_24⟩ (Nat.le_refl _) (Nat.le_refl _) (d_V (pc := 9) C (As := [.int a1, .int a2, .int a3, .int a4]) (rest := [.int (0 : Int32), va_rf a5]) rb1 kb1 nt_0 q2322 yi_X1_setDecay_FigureSurvey yk_X1_setDecay rfl (by decide) (by decide) (Nat.le_trans (aw_i (aw_r aw_0)) (by decide)) rfl (mX1_setDecay C.st ex2) dX0_setDecay_9)
    rw [if_neg k2] at hk
    cases hk
  refine v_call (pc := 9) (d_V (pc := 9) C (As := [.int a1, .int a2, .int a3, .int a4]) (rest := [.int (0 : Int32), va_rf a5]) rb1 kb1 nt_0 q2322 yi_X1_setDecay_FigureSurvey yk_X1_setDecay rfl (by decide) (by decide) (Nat.le_trans (aw_i (aw_r aw_0)) (by decide)) rfl (mX1_setDecay C.st ex2) dX0_setDecay_9) ?_
  refine v_i2l (pc := 12) C dX0_setDecay_12 ?_
  obtain ⟨h4, eh4, hf⟩ := oB hf
  refine v_lastore (pc := 13) C eh4 dX0_setDecay_13 ?_
  refine v_goto (pc := 14) (tgt := 25) C dX0_setDecay_14 rfl ?_
  refine v_iconst (pc := 25) (v := (0 : Int32)) C dX0_setDecay_25 rfl ?_
  cases hf
  exact v_wret (pc := 26) X dX0_setDecay_26
theorem mX0_setDecay {l : Launch} {D : aD} {h : aH} {a0 : Option Nat} {a1 : Int32} {a2 : Int32} {a3 : Int32} {a4 : Int32} {a5 : Option Nat} {q : Int32} {g : aH} (hst : l.stackTraces = false) (hf : fX0_setDecay D h a0 a1 a2 a3 a4 a5 = some (q, g)) : aMw l D yX0_setDecay cX0_setDecay 7 [(0, 14, 17, 21), (0, 14, 21, 13)] 9 149 [va_rf a0, .int a1, .int a2, .int a3, .int a4, va_rf a5] h q g :=
  aMw.of [(false, va_rf a0), (false, .int a1), (false, .int a2), (false, .int a3), (false, .int a4), (false, va_rf a5)] rfl (ap_r (ap_c rfl (ap_c rfl (ap_c rfl (ap_c rfl (ap_r ap_0)))))) (by decide +kernel) hst (al_of (aw_r (aw_i (aw_i (aw_i (aw_i (aw_r aw_0)))))) (by decide)) fun p e s m args below meth c X => V.sub (lv' := [(0, false, va_rf a0), (1, false, .int a1), (2, false, .int a2), (3, false, .int a3), (4, false, .int a4), (5, false, va_rf a5)]) [0, 1, 2, 3, 4, 5] rfl (vX0_setDecay X hf)
def fX0_healthOf (D : aD) (h : aH) (a0 : Option Nat) (a1 : Int32) (a2 : Option Nat) : Option (Int32 × aH) :=
  (aIs h 0 a0).bind fun _ =>
  bndW (fX1_healthOf D h a0 a1) (fun k => if k = 1 then some (1 : Int32) else none) fun x2 h3 =>
  (sF D h3 101 a2 (0 : Int32) (.long x2.toInt64)).bind fun h4 =>
  some ((0 : Int32), h4)
theorem vX0_healthOf {h : aH} {a0 : Option Nat} {a1 : Int32} {a2 : Option Nat} {q : Int32} {g : aH} (X : aXw p l R s m meth c D n0 s0 yX0_healthOf cX0_healthOf 9 145 4 [(0, 9, 12, 21)] h) (hf : fX0_healthOf D h a0 a1 a2 = some (q, g)) : V p l e R s m args below meth c D n0 s0 (aEndw D below args s h q g) h 0 [(0, false, va_rf a0), (1, false, .int a1), (2, false, va_rf a2)] [] := by
  have C := X.1
  unfold fX0_healthOf at hf
  refine v_aload_n (pc := 0) (j := 2) C dX0_healthOf_0 rfl rfl ?_
  refine v_iconst (pc := 1) (v := (0 : Int32)) C dX0_healthOf_1 rfl ?_
  refine v_aload_n (pc := 2) (j := 0) C dX0_healthOf_2 rfl rfl ?_
  refine v_iload_n (pc := 3) (j := 1) C dX0_healthOf_3 rfl rfl ?_
  obtain ⟨b1, eb1, hf⟩ := oB hf
  obtain ⟨rb1, _, kb1⟩ := aIs_eq eb1
  rcases bndW_eq hf with ⟨kx2, cx2, gx2, ex2, hk, qx2⟩ | ⟨x2, h3, ex2, hf⟩
  · cases qx2
    by_cases k1 : kx2 = 1
    · subst k1
      rw [if_pos rfl] at hk
      cases hk
      exact v_ofDc (pc := 4) (ek := 1) X [] [] rfl (fun _ hz => by cases hz) (by decide) (by decide) q1677 q1714 ⟨3, 1, 1, by decide, Or.inr ⟨3, rfl, dX0_healthOf_12, rfl⟩, dX0_healthOf_13, rfl, dX0_healthOf_14⟩ (Nat.le_refl _) (Nat.le_refl _) (d_V (pc := 4) C (As := [.int a1]) (rest := [.int (0 : Int32), va_rf a2]) rb1 kb1 nt_0 q2329 yi_X1_healthOf_FigureSurvey yk_X1_healthOf rfl (by decide) (by decide) (Nat.le_trans (aw_i (aw_r aw_0)) (by decide)) rfl (mX1_healthOf C.st ex2) dX0_healthOf_4)
    rw [if_neg k1] at hk
    cases hk
  refine v_call (pc := 4) (d_V (pc := 4) C (As := [.int a1]) (rest := [.int (0 : Int32), va_rf a2]) rb1 kb1 nt_0 q2329 yi_X1_healthOf_FigureSurvey yk_X1_healthOf rfl (by decide) (by decide) (Nat.le_trans (aw_i (aw_r aw_0)) (by decide)) rfl (mX1_healthOf C.st ex2) dX0_healthOf_4) ?_
  refine v_i2l (pc := 7) C dX0_healthOf_7 ?_
  obtain ⟨h4, eh4, hf⟩ := oB hf
  refine v_lastore (pc := 8) C eh4 dX0_healthOf_8 ?_
  refine v_goto (pc := 9) (tgt := 15) C dX0_healthOf_9 rfl ?_
  refine v_iconst (pc := 15) (v := (0 : Int32)) C dX0_healthOf_15 rfl ?_
  cases hf
  exact v_wret (pc := 16) X dX0_healthOf_16
theorem mX0_healthOf {l : Launch} {D : aD} {h : aH} {a0 : Option Nat} {a1 : Int32} {a2 : Option Nat} {q : Int32} {g : aH} (hst : l.stackTraces = false) (hf : fX0_healthOf D h a0 a1 a2 = some (q, g)) : aMw l D yX0_healthOf cX0_healthOf 4 [(0, 9, 12, 21)] 9 145 [va_rf a0, .int a1, va_rf a2] h q g :=
  aMw.of [(false, va_rf a0), (false, .int a1), (false, va_rf a2)] rfl (ap_r (ap_c rfl (ap_r ap_0))) (by decide +kernel) hst (al_of (aw_r (aw_i (aw_r aw_0))) (by decide)) fun p e s m args below meth c X => V.sub (lv' := [(0, false, va_rf a0), (1, false, .int a1), (2, false, va_rf a2)]) [0, 1, 2] rfl (vX0_healthOf X hf)
def fX0_addWork (D : aD) (h : aH) (a0 : Option Nat) (a1 : Int32) (a2 : Int32) (a3 : Int32) (a4 : Option Nat) : Option (Int32 × aH) :=
  (aIs h 0 a0).bind fun _ =>
  bndW (fX1_addWork D h a0 a1 a2 a3) (fun k => if k = 1 then some (1 : Int32) else if k = 2 then some (2 : Int32) else if k = 3 then some (3 : Int32) else none) fun x2 h3 =>
  (sF D h3 101 a4 (0 : Int32) (.long x2.toInt64)).bind fun h4 =>
  some ((0 : Int32), h4)
theorem vX0_addWork {h : aH} {a0 : Option Nat} {a1 : Int32} {a2 : Int32} {a3 : Int32} {a4 : Option Nat} {q : Int32} {g : aH} (X : aXw p l R s m meth c D n0 s0 yX0_addWork cX0_addWork 9 176 6 [(0, 12, 15, 21), (0, 12, 19, 13), (0, 12, 23, 15)] h) (hf : fX0_addWork D h a0 a1 a2 a3 a4 = some (q, g)) : V p l e R s m args below meth c D n0 s0 (aEndw D below args s h q g) h 0 [(0, false, va_rf a0), (1, false, .int a1), (2, false, .int a2), (3, false, .int a3), (4, false, va_rf a4)] [] := by
  have C := X.1
  unfold fX0_addWork at hf
  refine v_aload (pc := 0) (j := 4) C dX0_addWork_0 rfl ?_
  refine v_iconst (pc := 2) (v := (0 : Int32)) C dX0_addWork_2 rfl ?_
  refine v_aload_n (pc := 3) (j := 0) C dX0_addWork_3 rfl rfl ?_
  refine v_iload_n (pc := 4) (j := 1) C dX0_addWork_4 rfl rfl ?_
  refine v_iload_n (pc := 5) (j := 2) C dX0_addWork_5 rfl rfl ?_
  refine v_iload_n (pc := 6) (j := 3) C dX0_addWork_6 rfl rfl ?_
  obtain ⟨b1, eb1, hf⟩ := oB hf
  obtain ⟨rb1, _, kb1⟩ := aIs_eq eb1
  rcases bndW_eq hf with ⟨kx2, cx2, gx2, ex2, hk, qx2⟩ | ⟨x2, h3, ex2, hf⟩
  · cases qx2
    by_cases k1 : kx2 = 1
    · subst k1
      rw [if_pos rfl] at hk
      cases hk
      exact v_ofDc (pc := 7) (ek := 1) X [] [(0, 12, 19, 13), (0, 12, 23, 15)] rfl (fun _ hz => by cases hz) (by decide) (by decide) q1677 q1714 ⟨5, 2, 1, by decide, Or.inl ⟨dX0_addWork_15, rfl⟩, dX0_addWork_17, rfl, dX0_addWork_18⟩ (Nat.le_refl _) (Nat.le_refl _) (d_V (pc := 7) C (As := [.int a1, .int a2, .int a3]) (rest := [.int (0 : Int32), va_rf a4]) rb1 kb1 nt_0 q2336 yi_X1_addWork_FigureSurvey yk_X1_addWork rfl (by decide) (by decide) (Nat.le_trans (aw_i (aw_r aw_0)) (by decide)) rfl (mX1_addWork C.st ex2) dX0_addWork_7)
    rw [if_neg k1] at hk
    by_cases k2 : kx2 = 2
    · subst k2
      rw [if_pos rfl] at hk
      cases hk
      exact v_ofDc (pc := 7) (ek := 2) X [(0, 12, 15, 21)] [(0, 12, 23, 15)] rfl (List.forall_mem_cons.mpr ⟨⟨by decide, _, q1677, by decide +kernel⟩, fun _ hz => by cases hz⟩) (by decide) (by decide) q1572 q294 ⟨5, 2, 2, by decide, Or.inl ⟨dX0_addWork_19, rfl⟩, dX0_addWork_21, rfl, dX0_addWork_22⟩ (Nat.le_refl _) (Nat.le_refl _) (d_V (pc := 7) C (As := [.int a1, .int a2, .int a3]) (rest := [.int (0 : Int32), va_rf a4]) rb1 kb1 nt_0 q2336 yi_X1_addWork_FigureSurvey yk_X1_addWork rfl (by decide) (by decide) (Nat.le_trans (aw_i (aw_r aw_0)) (by decide)) rfl (mX1_addWork C.st ex2) dX0_addWork_7)
    rw [if_neg k2] at hk
    by_cases k3 : kx2 = 3
    · subst k3
      rw [if_pos rfl] at hk
      cases hk
      exact v_ofDc (pc := 7) (ek := 3) X [(0, 12, 15, 21), (0, 12, 19, 13)] [] rfl (List.forall_mem_cons.mpr ⟨⟨by decide, _, q1677, by decide +kernel⟩, List.forall_mem_cons.mpr ⟨⟨by decide, _, q1572, by decide +kernel⟩, fun _ hz => by cases hz⟩⟩) (by decide) (by decide) q1573 q1600 ⟨5, 2, 3, by decide, Or.inl ⟨dX0_addWork_23, rfl⟩, dX0_addWork_25, rfl, dX0_addWork_26⟩ (Nat.le_refl _) (Nat.le_refl _) (d_V (pc := 7) C (As := [.int a1, .int a2, .int a3]) (rest := [.int (0 : Int32), va_rf a4]) rb1 kb1 nt_0 q2336 yi_X1_addWork_FigureSurvey yk_X1_addWork rfl (by decide) (by decide) (Nat.le_trans (aw_i (aw_r aw_0)) (by decide)) rfl (mX1_addWork C.st ex2) dX0_addWork_7)
    rw [if_neg k3] at hk
    cases hk
  refine v_call (pc := 7) (d_V (pc := 7) C (As := [.int a1, .int a2, .int a3]) (rest := [.int (0 : Int32), va_rf a4]) rb1 kb1 nt_0 q2336 yi_X1_addWork_FigureSurvey yk_X1_addWork rfl (by decide) (by decide) (Nat.le_trans (aw_i (aw_r aw_0)) (by decide)) rfl (mX1_addWork C.st ex2) dX0_addWork_7) ?_
  refine v_i2l (pc := 10) C dX0_addWork_10 ?_
  obtain ⟨h4, eh4, hf⟩ := oB hf
  refine v_lastore (pc := 11) C eh4 dX0_addWork_11 ?_
  refine v_goto (pc := 12) (tgt := 27) C dX0_addWork_12 rfl ?_
  refine v_iconst (pc := 27) (v := (0 : Int32)) C dX0_addWork_27 rfl ?_
  cases hf
  exact v_wret (pc := 28) X dX0_addWork_28
theorem mX0_addWork {l : Launch} {D : aD} {h : aH} {a0 : Option Nat} {a1 : Int32} {a2 : Int32} {a3 : Int32} {a4 : Option Nat} {q : Int32} {g : aH} (hst : l.stackTraces = false) (hf : fX0_addWork D h a0 a1 a2 a3 a4 = some (q, g)) : aMw l D yX0_addWork cX0_addWork 6 [(0, 12, 15, 21), (0, 12, 19, 13), (0, 12, 23, 15)] 9 176 [va_rf a0, .int a1, .int a2, .int a3, va_rf a4] h q g :=
  aMw.of [(false, va_rf a0), (false, .int a1), (false, .int a2), (false, .int a3), (false, va_rf a4)] rfl (ap_r (ap_c rfl (ap_c rfl (ap_c rfl (ap_r ap_0))))) (by decide +kernel) hst (al_of (aw_r (aw_i (aw_i (aw_i (aw_r aw_0))))) (by decide)) fun p e s m args below meth c X => V.sub (lv' := [(0, false, va_rf a0), (1, false, .int a1), (2, false, .int a2), (3, false, .int a3), (4, false, va_rf a4)]) [0, 1, 2, 3, 4] rfl (vX0_addWork X hf)
def fX0_setLoad (D : aD) (h : aH) (a0 : Option Nat) (a1 : Int32) (a2 : Int32) (a3 : Option Nat) : Option (Int32 × aH) :=
  (aIs h 0 a0).bind fun _ =>
  bndW (fX1_setLoad D h a0 a1 a2) (fun k => if k = 1 then some (1 : Int32) else if k = 2 then some (2 : Int32) else none) fun x2 h3 =>
  (sF D h3 101 a3 (0 : Int32) (.long x2.toInt64)).bind fun h4 =>
  some ((0 : Int32), h4)
theorem vX0_setLoad {h : aH} {a0 : Option Nat} {a1 : Int32} {a2 : Int32} {a3 : Option Nat} {q : Int32} {g : aH} (X : aXw p l R s m meth c D n0 s0 yX0_setLoad cX0_setLoad 9 148 5 [(0, 10, 13, 21), (0, 10, 17, 13)] h) (hf : fX0_setLoad D h a0 a1 a2 a3 = some (q, g)) : V p l e R s m args below meth c D n0 s0 (aEndw D below args s h q g) h 0 [(0, false, va_rf a0), (1, false, .int a1), (2, false, .int a2), (3, false, va_rf a3)] [] := by
  have C := X.1
  unfold fX0_setLoad at hf
  refine v_aload_n (pc := 0) (j := 3) C dX0_setLoad_0 rfl rfl ?_
  refine v_iconst (pc := 1) (v := (0 : Int32)) C dX0_setLoad_1 rfl ?_
  refine v_aload_n (pc := 2) (j := 0) C dX0_setLoad_2 rfl rfl ?_
  refine v_iload_n (pc := 3) (j := 1) C dX0_setLoad_3 rfl rfl ?_
  refine v_iload_n (pc := 4) (j := 2) C dX0_setLoad_4 rfl rfl ?_
  obtain ⟨b1, eb1, hf⟩ := oB hf
  obtain ⟨rb1, _, kb1⟩ := aIs_eq eb1
  rcases bndW_eq hf with ⟨kx2, cx2, gx2, ex2, hk, qx2⟩ | ⟨x2, h3, ex2, hf⟩
  · cases qx2
    by_cases k1 : kx2 = 1
    · subst k1
      rw [if_pos rfl] at hk
      cases hk
      exact v_ofDc (pc := 5) (ek := 1) X [] [(0, 10, 17, 13)] rfl (fun _ hz => by cases hz) (by decide) (by decide) q1677 q1714 ⟨4, 2, 1, by decide, Or.inl ⟨dX0_setLoad_13, rfl⟩, dX0_setLoad_15, rfl, dX0_setLoad_16⟩ (Nat.le_refl _) (Nat.le_refl _) (d_V (pc := 5) C (As := [.int a1, .int a2]) (rest := [.int (0 : Int32), va_rf a3]) rb1 kb1 nt_0 q2384 yi_X1_setLoad_FigureSurvey yk_X1_setLoad rfl (by decide) (by decide) (Nat.le_trans (aw_i (aw_r aw_0)) (by decide)) rfl (mX1_setLoad C.st ex2) dX0_setLoad_5)
    rw [if_neg k1] at hk
    by_cases k2 : kx2 = 2
    · subst k2
      rw [if_pos rfl] at hk
      cases hk
      exact v_ofDc (pc := 5) (ek := 2) X [(0, 10, 13, 21)] [] rfl (List.forall_mem_cons.mpr ⟨⟨by decide, _, q1677, by decide +kernel⟩, fun _ hz => by cases hz⟩) (by decide) (by decide) q1572 q294 ⟨4, 2, 2, by decide, Or.inl ⟨dX0_setLoad_17, rfl⟩, dX0_setLoad_19, rfl, dX0_setLoad_20⟩ (Nat.le_refl _) (Nat.le_refl _) (d_V (pc := 5) C (As := [.int a1, .int a2]) (rest := [.int (0 : Int32), va_rf a3]) rb1 kb1 nt_0 q2384 yi_X1_setLoad_FigureSurvey yk_X1_setLoad rfl (by decide) (by decide) (Nat.le_trans (aw_i (aw_r aw_0)) (by decide)) rfl (mX1_setLoad C.st ex2) dX0_setLoad_5)
    rw [if_neg k2] at hk
    cases hk
  refine v_call (pc := 5) (d_V (pc := 5) C (As := [.int a1, .int a2]) (rest := [.int (0 : Int32), va_rf a3]) rb1 kb1 nt_0 q2384 yi_X1_setLoad_FigureSurvey yk_X1_setLoad rfl (by decide) (by decide) (Nat.le_trans (aw_i (aw_r aw_0)) (by decide)) rfl (mX1_setLoad C.st ex2) dX0_setLoad_5) ?_
  refine v_i2l (pc := 8) C dX0_setLoad_8 ?_
  obtain ⟨h4, eh4, hf⟩ := oB hf
  refine v_lastore (pc := 9) C eh4 dX0_setLoad_9 ?_
  refine v_goto (pc := 10) (tgt := 21) C dX0_setLoad_10 rfl ?_
  refine v_iconst (pc := 21) (v := (0 : Int32)) C dX0_setLoad_21 rfl ?_
  cases hf
  exact v_wret (pc := 22) X dX0_setLoad_22
theorem mX0_setLoad {l : Launch} {D : aD} {h : aH} {a0 : Option Nat} {a1 : Int32} {a2 : Int32} {a3 : Option Nat} {q : Int32} {g : aH} (hst : l.stackTraces = false) (hf : fX0_setLoad D h a0 a1 a2 a3 = some (q, g)) : aMw l D yX0_setLoad cX0_setLoad 5 [(0, 10, 13, 21), (0, 10, 17, 13)] 9 148 [va_rf a0, .int a1, .int a2, va_rf a3] h q g :=
  aMw.of [(false, va_rf a0), (false, .int a1), (false, .int a2), (false, va_rf a3)] rfl (ap_r (ap_c rfl (ap_c rfl (ap_r ap_0)))) (by decide +kernel) hst (al_of (aw_r (aw_i (aw_i (aw_r aw_0)))) (by decide)) fun p e s m args below meth c X => V.sub (lv' := [(0, false, va_rf a0), (1, false, .int a1), (2, false, .int a2), (3, false, va_rf a3)]) [0, 1, 2, 3] rfl (vX0_setLoad X hf)
def fX0_tour (D : aD) (h : aH) (a0 : Option Nat) (a1 : Int32) (a2 : Int32) (a3 : Option Nat) : Option (Int32 × aH) :=
  (aIs h 0 a0).bind fun _ =>
  bndW (fX1_tour D h a0 a1 a2) (fun k => if k = 1 then some (1 : Int32) else if k = 2 then some (2 : Int32) else if k = 3 then some (3 : Int32) else none) fun x2 h3 =>
  (sF D h3 101 a3 (0 : Int32) (.long x2.toInt64)).bind fun h4 =>
  some ((0 : Int32), h4)
theorem vX0_tour {h : aH} {a0 : Option Nat} {a1 : Int32} {a2 : Int32} {a3 : Option Nat} {q : Int32} {g : aH} (X : aXw p l R s m meth c D n0 s0 yX0_tour cX0_tour 9 147 5 [(0, 10, 13, 21), (0, 10, 17, 13), (0, 10, 21, 15)] h) (hf : fX0_tour D h a0 a1 a2 a3 = some (q, g)) : V p l e R s m args below meth c D n0 s0 (aEndw D below args s h q g) h 0 [(0, false, va_rf a0), (1, false, .int a1), (2, false, .int a2), (3, false, va_rf a3)] [] := by
  have C := X.1
  unfold fX0_tour at hf
  refine v_aload_n (pc := 0) (j := 3) C dX0_tour_0 rfl rfl ?_
  refine v_iconst (pc := 1) (v := (0 : Int32)) C dX0_tour_1 rfl ?_
  refine v_aload_n (pc := 2) (j := 0) C dX0_tour_2 rfl rfl ?_
  refine v_iload_n (pc := 3) (j := 1) C dX0_tour_3 rfl rfl ?_
  refine v_iload_n (pc := 4) (j := 2) C dX0_tour_4 rfl rfl ?_
  obtain ⟨b1, eb1, hf⟩ := oB hf
  obtain ⟨rb1, _, kb1⟩ := aIs_eq eb1
  rcases bndW_eq hf with ⟨kx2, cx2, gx2, ex2, hk, qx2⟩ | ⟨x2, h3, ex2, hf⟩
  · cases qx2
    by_cases k1 : kx2 = 1
    · subst k1
      rw [if_pos rfl] at hk
      cases hk
      exact v_ofDc (pc := 5) (ek := 1) X [] [(0, 10, 17, 13), (0, 10, 21, 15)] rfl (fun _ hz => by cases hz) (by decide) (by decide) q1677 q1714 ⟨4, 2, 1, by decide, Or.inl ⟨dX0_tour_13, rfl⟩, dX0_tour_15, rfl, dX0_tour_16⟩ (Nat.le_refl _) (Nat.le_refl _) (d_V (pc := 5) C (As := [.int a1, .int a2]) (rest := [.int (0 : Int32), va_rf a3]) rb1 kb1 nt_0 q2391 yi_X1_tour_FigureSurvey yk_X1_tour rfl (by decide) (by decide) (Nat.le_trans (aw_i (aw_r aw_0)) (by decide)) rfl (mX1_tour C.st ex2) dX0_tour_5)
    rw [if_neg k1] at hk
    by_cases k2 : kx2 = 2
    · subst k2
      rw [if_pos rfl] at hk
      cases hk
      exact v_ofDc (pc := 5) (ek := 2) X [(0, 10, 13, 21)] [(0, 10, 21, 15)] rfl (List.forall_mem_cons.mpr ⟨⟨by decide, _, q1677, by decide +kernel⟩, fun _ hz => by cases hz⟩) (by decide) (by decide) q1572 q294 ⟨4, 2, 2, by decide, Or.inl ⟨dX0_tour_17, rfl⟩, dX0_tour_19, rfl, dX0_tour_20⟩ (Nat.le_refl _) (Nat.le_refl _) (d_V (pc := 5) C (As := [.int a1, .int a2]) (rest := [.int (0 : Int32), va_rf a3]) rb1 kb1 nt_0 q2391 yi_X1_tour_FigureSurvey yk_X1_tour rfl (by decide) (by decide) (Nat.le_trans (aw_i (aw_r aw_0)) (by decide)) rfl (mX1_tour C.st ex2) dX0_tour_5)
    rw [if_neg k2] at hk
    by_cases k3 : kx2 = 3
    · subst k3
      rw [if_pos rfl] at hk
      cases hk
      exact v_ofDc (pc := 5) (ek := 3) X [(0, 10, 13, 21), (0, 10, 17, 13)] [] rfl (List.forall_mem_cons.mpr ⟨⟨by decide, _, q1677, by decide +kernel⟩, List.forall_mem_cons.mpr ⟨⟨by decide, _, q1572, by decide +kernel⟩, fun _ hz => by cases hz⟩⟩) (by decide) (by decide) q1573 q1600 ⟨4, 2, 3, by decide, Or.inl ⟨dX0_tour_21, rfl⟩, dX0_tour_23, rfl, dX0_tour_24⟩ (Nat.le_refl _) (Nat.le_refl _) (d_V (pc := 5) C (As := [.int a1, .int a2]) (rest := [.int (0 : Int32), va_rf a3]) rb1 kb1 nt_0 q2391 yi_X1_tour_FigureSurvey yk_X1_tour rfl (by decide) (by decide) (Nat.le_trans (aw_i (aw_r aw_0)) (by decide)) rfl (mX1_tour C.st ex2) dX0_tour_5)
    rw [if_neg k3] at hk
    cases hk
  refine v_call (pc := 5) (d_V (pc := 5) C (As := [.int a1, .int a2]) (rest := [.int (0 : Int32), va_rf a3]) rb1 kb1 nt_0 q2391 yi_X1_tour_FigureSurvey yk_X1_tour rfl (by decide) (by decide) (Nat.le_trans (aw_i (aw_r aw_0)) (by decide)) rfl (mX1_tour C.st ex2) dX0_tour_5) ?_
  refine v_i2l (pc := 8) C dX0_tour_8 ?_
  obtain ⟨h4, eh4, hf⟩ := oB hf
  refine v_lastore (pc := 9) C eh4 dX0_tour_9 ?_
  refine v_goto (pc := 10) (tgt := 25) C dX0_tour_10 rfl ?_
  refine v_iconst (pc := 25) (v := (0 : Int32)) C dX0_tour_25 rfl ?_
  cases hf
  exact v_wret (pc := 26) X dX0_tour_26
theorem mX0_tour {l : Launch} {D : aD} {h : aH} {a0 : Option Nat} {a1 : Int32} {a2 : Int32} {a3 : Option Nat} {q : Int32} {g : aH} (hst : l.stackTraces = false) (hf : fX0_tour D h a0 a1 a2 a3 = some (q, g)) : aMw l D yX0_tour cX0_tour 5 [(0, 10, 13, 21), (0, 10, 17, 13), (0, 10, 21, 15)] 9 147 [va_rf a0, .int a1, .int a2, va_rf a3] h q g :=
  aMw.of [(false, va_rf a0), (false, .int a1), (false, .int a2), (false, va_rf a3)] rfl (ap_r (ap_c rfl (ap_c rfl (ap_r ap_0)))) (by decide +kernel) hst (al_of (aw_r (aw_i (aw_i (aw_r aw_0)))) (by decide)) fun p e s m args below meth c X => V.sub (lv' := [(0, false, va_rf a0), (1, false, .int a1), (2, false, .int a2), (3, false, va_rf a3)]) [0, 1, 2, 3] rfl (vX0_tour X hf)
def fX0_isDrowned_p15 (D : aD) (h : aH) (t0 : Option Nat) (t1 : Int32) (t2 : Int64) : Option (Int32 × aH) :=
  (sF D h 101 t0 t1 (.long t2)).bind fun h1 =>
  some ((0 : Int32), h1)
theorem vX0_isDrowned_p15 {h : aH} {t0 : Option Nat} {t1 : Int32} {t2 : Int64} {q : Int32} {g : aH} (X : aXw p l R s m meth c D n0 s0 yX0_isDrowned cX0_isDrowned 9 145 4 [(0, 16, 19, 21)] h0) (hf : fX0_isDrowned_p15 D h t0 t1 t2 = some (q, g)) : V p l e R s m args below meth c D n0 s0 (aEndw D below args s h0 q g) h 15 [] [.long t2, .int t1, va_rf t0] := by
  have C := X.1
  unfold fX0_isDrowned_p15 at hf
  obtain ⟨h1, eh1, hf⟩ := oB hf
  refine v_lastore (pc := 15) C eh1 dX0_isDrowned_15 ?_
  refine v_goto (pc := 16) (tgt := 22) C dX0_isDrowned_16 rfl ?_
  refine v_iconst (pc := 22) (v := (0 : Int32)) C dX0_isDrowned_22 rfl ?_
  cases hf
  exact v_wret (pc := 23) X dX0_isDrowned_23
def fX0_isDrowned (D : aD) (h : aH) (a0 : Option Nat) (a1 : Int32) (a2 : Option Nat) : Option (Int32 × aH) :=
  (aIs h 0 a0).bind fun _ =>
  bndW (fX1_isDrowned_2 D h a0 a1) (fun k => if k = 1 then some (1 : Int32) else none) fun x2 h3 =>
  fX0_isDrowned_p15 D h3 a2 (0 : Int32) (if x2 = 0 then (0 : Int64) else (1 : Int64))
theorem vX0_isDrowned {h : aH} {a0 : Option Nat} {a1 : Int32} {a2 : Option Nat} {q : Int32} {g : aH} (X : aXw p l R s m meth c D n0 s0 yX0_isDrowned cX0_isDrowned 9 145 4 [(0, 16, 19, 21)] h) (hf : fX0_isDrowned D h a0 a1 a2 = some (q, g)) : V p l e R s m args below meth c D n0 s0 (aEndw D below args s h q g) h 0 [(0, false, va_rf a0), (1, false, .int a1), (2, false, va_rf a2)] [] := by
  have C := X.1
  unfold fX0_isDrowned at hf
  refine v_aload_n (pc := 0) (j := 2) C dX0_isDrowned_0 rfl rfl ?_
  refine v_iconst (pc := 1) (v := (0 : Int32)) C dX0_isDrowned_1 rfl ?_
  refine v_aload_n (pc := 2) (j := 0) C dX0_isDrowned_2 rfl rfl ?_
  refine v_iload_n (pc := 3) (j := 1) C dX0_isDrowned_3 rfl rfl ?_
  obtain ⟨b1, eb1, hf⟩ := oB hf
  obtain ⟨rb1, _, kb1⟩ := aIs_eq eb1
  rcases bndW_eq hf with ⟨kx2, cx2, gx2, ex2, hk, qx2⟩ | ⟨x2, h3, ex2, hf⟩
  · cases qx2
    by_cases k1 : kx2 = 1
    · subst k1
      rw [if_pos rfl] at hk
      cases hk
      exact v_ofDc (pc := 4) (ek := 1) X [] [] rfl (fun _ hz => by cases hz) (by decide) (by decide) q1677 q1714 ⟨3, 1, 1, by decide, Or.inr ⟨3, rfl, dX0_isDrowned_19, rfl⟩, dX0_isDrowned_20, rfl, dX0_isDrowned_21⟩ (Nat.le_refl _) (Nat.le_refl _) (d_V (pc := 4) C (As := [.int a1]) (rest := [.int (0 : Int32), va_rf a2]) rb1 kb1 nt_0 q2408 yi_X1_isDrowned_2_FigureSurvey yk_X1_isDrowned_2 rfl (by decide) (by decide) (Nat.le_trans (aw_i (aw_r aw_0)) (by decide)) rfl (mX1_isDrowned_2 C.st ex2) dX0_isDrowned_4)
    rw [if_neg k1] at hk
    cases hk
  refine v_call (pc := 4) (d_V (pc := 4) C (As := [.int a1]) (rest := [.int (0 : Int32), va_rf a2]) rb1 kb1 nt_0 q2408 yi_X1_isDrowned_2_FigureSurvey yk_X1_isDrowned_2 rfl (by decide) (by decide) (Nat.le_trans (aw_i (aw_r aw_0)) (by decide)) rfl (mX1_isDrowned_2 C.st ex2) dX0_isDrowned_4) ?_
  refine v_if_eq (pc := 7) (tgt := 14) C dX0_isDrowned_7 rfl (fun hc => ?_) (fun hc => ?_)
  · simp only [if_pos hc] at hf
    refine v_lconst (pc := 14) (v := (0 : Int64)) C dX0_isDrowned_14 rfl ?_
    exact V.sub [] rfl (vX0_isDrowned_p15 X hf)
  · simp only [if_neg hc] at hf
    refine v_lconst (pc := 10) (v := (1 : Int64)) C dX0_isDrowned_10 rfl ?_
    refine v_goto (pc := 11) (tgt := 15) C dX0_isDrowned_11 rfl ?_
    exact V.sub [] rfl (vX0_isDrowned_p15 X hf)
theorem mX0_isDrowned {l : Launch} {D : aD} {h : aH} {a0 : Option Nat} {a1 : Int32} {a2 : Option Nat} {q : Int32} {g : aH} (hst : l.stackTraces = false) (hf : fX0_isDrowned D h a0 a1 a2 = some (q, g)) : aMw l D yX0_isDrowned cX0_isDrowned 4 [(0, 16, 19, 21)] 9 145 [va_rf a0, .int a1, va_rf a2] h q g :=
  aMw.of [(false, va_rf a0), (false, .int a1), (false, va_rf a2)] rfl (ap_r (ap_c rfl (ap_r ap_0))) (by decide +kernel) hst (al_of (aw_r (aw_i (aw_r aw_0))) (by decide)) fun p e s m args below meth c X => V.sub (lv' := [(0, false, va_rf a0), (1, false, .int a1), (2, false, va_rf a2)]) [0, 1, 2] rfl (vX0_isDrowned X hf)
def fX7_compareTo_2 (D : aD) (h : aH) (a0 : Option Nat) (a1 : Option Nat) : Option (Int32) :=
  (aCast h [6] a1).bind fun _ =>
  (aIs h 6 a0).bind fun _ =>
  (fX7_compareTo D h a0 a1).bind fun x3 =>
  some x3
theorem vX7_compareTo_2 {h : aH} {a0 : Option Nat} {a1 : Option Nat} {q : Int32} (X : aX p l R s m meth c D n0 s0 yX7_compareTo_2 cX7_compareTo_2 3 61 2 (some .int) h0) (hf : fX7_compareTo_2 D h a0 a1 = some q) : V p l e R s m args below meth c D n0 s0 (aEnd D below args s h0 (.inr (some (.int q)), h)) h 0 [(0, false, va_rf a0), (1, false, va_rf a1)] [] := by
  have C := X.1
  unfold fX7_compareTo_2 at hf
  refine v_aload_n (pc := 0) (j := 0) C dX7_compareTo_2_0 rfl rfl ?_
  refine v_aload_n (pc := 1) (j := 1) C dX7_compareTo_2_1 rfl rfl ?_
  obtain ⟨_, e1, hf⟩ := oB hf
  refine v_cast (pc := 2) C q628 ct_FigureSurvey_Shift e1 dX7_compareTo_2_2 ?_
  obtain ⟨b2, eb2, hf⟩ := oB hf
  obtain ⟨rb2, _, kb2⟩ := aIs_eq eb2
  obtain ⟨x3, ex3, hf⟩ := oB hf
  refine v_call (pc := 5) (d_V (pc := 5) C (As := [va_rf a1]) (rest := []) rb2 kb2 nt_6 q629 yi_X7_compareTo_FigureSurvey_Shift yk_X7_compareTo rfl (by decide) (by decide) (Nat.le_trans aw_0 (by decide)) rfl (mX7_compareTo C.st ex3) dX7_compareTo_2_5) ?_
  cases hf
  exact v_ireturn (pc := 8) C X.2.1 X.2.2.1 X.2.2.2.1 rfl dX7_compareTo_2_8
theorem mX7_compareTo_2 {l : Launch} {D : aD} {h : aH} {a0 : Option Nat} {a1 : Option Nat} {q : Int32} (hst : l.stackTraces = false) (hf : fX7_compareTo_2 D h a0 a1 = some q) : aM l D yX7_compareTo_2 cX7_compareTo_2 2 (some .int) 3 61 [va_rf a0, va_rf a1] h (.inr (some (.int q)), h) :=
  aM.ofX [(false, va_rf a0), (false, va_rf a1)] rfl (ap_r (ap_r ap_0)) (by decide +kernel) hst (al_of (aw_r (aw_r aw_0)) (by decide)) fun p e s m args below meth c X => V.sub (lv' := [(0, false, va_rf a0), (1, false, va_rf a1)]) [0, 1] rfl (vX7_compareTo_2 X hf)
def fX13_equals (D : aD) (h : aH) (a0 : Option Nat) (a1 : Option Nat) : Option (Int32) :=
  none
theorem vX13_equals {h : aH} {a0 : Option Nat} {a1 : Option Nat} {q : Int32} (X : aX p l R s m meth c D n0 s0 yX13_equals cX13_equals 0 0 2 (some .boolean) h0) (hf : fX13_equals D h a0 a1 = some q) : V p l e R s m args below meth c D n0 s0 (aEnd D below args s h0 (.inr (some (.int q)), h)) h 0 [(0, false, va_rf a0), (1, false, va_rf a1)] [] := by
  have C := X.1
  unfold fX13_equals at hf
  refine v_aload_n (pc := 0) (j := 0) C dX13_equals_0 rfl rfl ?_
  refine v_aload_n (pc := 1) (j := 1) C dX13_equals_1 rfl rfl ?_
  cases hf
theorem mX13_equals {l : Launch} {D : aD} {h : aH} {a0 : Option Nat} {a1 : Option Nat} {q : Int32} (hst : l.stackTraces = false) (hf : fX13_equals D h a0 a1 = some q) : aM l D yX13_equals cX13_equals 2 (some .boolean) 0 0 [va_rf a0, va_rf a1] h (.inr (some (.int q)), h) :=
  aM.ofX [(false, va_rf a0), (false, va_rf a1)] rfl (ap_r (ap_r ap_0)) (by decide +kernel) hst (al_of (aw_r (aw_r aw_0)) (by decide)) fun p e s m args below meth c X => V.sub (lv' := [(0, false, va_rf a0), (1, false, va_rf a1)]) [0, 1] rfl (vX13_equals X hf)
end SW072
