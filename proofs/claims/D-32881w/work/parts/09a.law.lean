/-! ===== printed: the walk of the law ===== -/
set_option maxRecDepth 100000
section SLAW
variable {p : Program} {l : Launch} {e : Env} {s : State} {m : MethodId} {below : List Frame} {meth : Method} {c : Code} {D : aD} {n0 s0 b : Nat}
def wL_p3952 (K23 : aD → aH → (Option Nat) → (Option Nat) → (Option Nat) → (Option Nat) → (Int32) → Prop) (D : aD) (h : aH) (a0 : Option Nat) (a1 : Option Nat) (a2 : Option Nat) (a3 : Option Nat) (a4 : Int32) : Prop :=
  K23 D h a0 a1 a2 a3 (a4 + 5)
theorem vL_p3952 {D : aD} {n0 : Nat} {h : aH} {K23 : aD → aH → (Option Nat) → (Option Nat) → (Option Nat) → (Option Nat) → (Int32) → Prop} {a0 : Option Nat} {a1 : Option Nat} {a2 : Option Nat} {a3 : Option Nat} {a4 : Int32} (L : lX p l s m meth c D n0 s0 27 3484) (k23 : ∀ (D : aD) (n0 : Nat) (L : lX p l s m meth c D n0 s0 27 3484) (h : aH) (a0 : Option Nat) (a1 : Option Nat) (a2 : Option Nat) (a3 : Option Nat) (a4 : Int32), K23 D h a0 a1 a2 a3 a4 → V p l e room_1 s m #[Value.ref b] below meth c D n0 s0 (lw_Z below #[Value.ref b] s) h 23 [(0, false, va_rf a0), (1, false, va_rf a1), (2, false, va_rf a2), (3, false, va_rf a3), (4, false, .int a4)] []) (hf : wL_p3952 K23 D h a0 a1 a2 a3 a4) : V p l e room_1 s m #[Value.ref b] below meth c D n0 s0 (lw_Z below #[Value.ref b] s) h 3952 [(0, false, va_rf a0), (1, false, va_rf a1), (2, false, va_rf a2), (3, false, va_rf a3), (4, false, .int a4)] [] := by
  have C := L.1
  unfold wL_p3952 at hf
  refine v_iinc (pc := 3952) (j := 4) (v := (a4 + 5)) (lv' := [(4, false, .int (a4 + 5)), (0, false, va_rf a0), (1, false, va_rf a1), (2, false, va_rf a2), (3, false, va_rf a3)]) C dL_law_3952 rfl rfl (by decide) rfl ?_
  refine v_goto (pc := 3955) (tgt := 23) C dL_law_3955 rfl ?_
  exact V.sub [1, 2, 3, 4, 0] rfl (k23 _ _ L _ _ _ _ _ _ hf)
def wL_p831 (K23 : aD → aH → (Option Nat) → (Option Nat) → (Option Nat) → (Option Nat) → (Int32) → Prop) (D : aD) (h : aH) (a0 : Option Nat) (a1 : Option Nat) (a2 : Option Nat) (a3 : Option Nat) (a4 : Int32) (a5 : Int32) (t0 : Option Nat) (t1 : Int32) (t2 : Int32) (t3 : Int32) : Prop :=
  wB (aIs h 1 t0) fun _ =>
  w2 (fX2_setStroke D h t0 t1 t2 t3) fun x2 h3 =>
  wB (aIs h3 1 a2) fun _ =>
  wB (fX2_thrown D h3 a2) fun x5 =>
  if x5 = a5 then
  (if a5 = 0 then
  (wB (eL h3 a3 (0 : Int32)) fun x7 =>
  if (lg_cmp x7 x2.toInt64) = 0 then
  (wL_p3952 K23 D h3 a0 a1 a2 a3 a4)
  else
  (False))
  else
  (wL_p3952 K23 D h3 a0 a1 a2 a3 a4))
  else
  (False)
theorem vL_p831 {D : aD} {n0 : Nat} {h : aH} {K23 : aD → aH → (Option Nat) → (Option Nat) → (Option Nat) → (Option Nat) → (Int32) → Prop} {a0 : Option Nat} {a1 : Option Nat} {a2 : Option Nat} {a3 : Option Nat} {a4 : Int32} {a5 : Int32} {t0 : Option Nat} {t1 : Int32} {t2 : Int32} {t3 : Int32} (L : lX p l s m meth c D n0 s0 27 3484) (k23 : ∀ (D : aD) (n0 : Nat) (L : lX p l s m meth c D n0 s0 27 3484) (h : aH) (a0 : Option Nat) (a1 : Option Nat) (a2 : Option Nat) (a3 : Option Nat) (a4 : Int32), K23 D h a0 a1 a2 a3 a4 → V p l e room_1 s m #[Value.ref b] below meth c D n0 s0 (lw_Z below #[Value.ref b] s) h 23 [(0, false, va_rf a0), (1, false, va_rf a1), (2, false, va_rf a2), (3, false, va_rf a3), (4, false, .int a4)] []) (hf : wL_p831 K23 D h a0 a1 a2 a3 a4 a5 t0 t1 t2 t3) : V p l e room_1 s m #[Value.ref b] below meth c D n0 s0 (lw_Z below #[Value.ref b] s) h 831 [(0, false, va_rf a0), (1, false, va_rf a1), (2, false, va_rf a2), (3, false, va_rf a3), (4, false, .int a4), (5, false, .int a5)] [.int t3, .int t2, .int t1, va_rf t0] := by
  have C := L.1
  unfold wL_p831 at hf
  obtain ⟨b1, eb1, hf⟩ := hf
  obtain ⟨rb1, _, kb1⟩ := aIs_eq eb1
  obtain ⟨x2, h3, ex2, hf⟩ := hf
  refine v_call (pc := 831) (d_V (pc := 831) C (As := [.int t1, .int t2, .int t3]) (rest := []) rb1 kb1 nt_1 q2556 yi_X2_setStroke_FigureSurveyModel yk_X2_setStroke rfl (by decide) (by decide) (Nat.le_trans aw_0 (by decide)) rfl (mX2_setStroke C.st ex2) dL_law_831) ?_
  refine v_istore (pc := 834) (lv' := [(6, false, .int x2), (0, false, va_rf a0), (1, false, va_rf a1), (2, false, va_rf a2), (3, false, va_rf a3), (4, false, .int a4), (5, false, .int a5)]) C dL_law_834 (by decide) rfl ?_
  refine v_aload_n (pc := 836) (j := 3) C dL_law_836 rfl rfl ?_
  obtain ⟨b4, eb4, hf⟩ := hf
  obtain ⟨rb4, _, kb4⟩ := aIs_eq eb4
  obtain ⟨x5, ex5, hf⟩ := hf
  refine v_call (pc := 837) (d_V (pc := 837) C (As := []) (rest := []) rb4 kb4 nt_1 q2487 yi_X2_thrown_FigureSurveyModel yk_X2_thrown rfl (by decide) (by decide) (Nat.le_trans aw_0 (by decide)) rfl (mX2_thrown C.st ex5) dL_law_837) ?_
  refine v_iload (pc := 840) (j := 6) C dL_law_840 rfl ?_
  refine v_icmp_eq (pc := 842) (tgt := 847) C dL_law_842 rfl (fun hc => ?_) (fun hc => ?_)
  · rw [if_pos hc] at hf
    refine v_iload (pc := 847) (j := 6) C dL_law_847 rfl ?_
    refine v_if_ne (pc := 849) (tgt := 864) C dL_law_849 rfl (fun hc => ?_) (fun hc => ?_)
    · rw [if_neg hc] at hf
      refine v_goto (pc := 864) (tgt := 3952) C dL_law_864 rfl ?_
      exact V.sub [1, 2, 3, 4, 5] rfl (vL_p3952 L k23 hf)
    · rw [if_pos (Decidable.of_not_not hc)] at hf
      refine v_aload_n (pc := 852) (j := 4) C dL_law_852 rfl rfl ?_
      refine v_iconst (pc := 853) (v := (0 : Int32)) C dL_law_853 rfl ?_
      obtain ⟨x7, ex7, hf⟩ := hf
      refine v_laload (pc := 854) C ex7 dL_law_854 ?_
      refine v_iload (pc := 855) (j := 0) C dL_law_855 rfl ?_
      refine v_i2l (pc := 857) C dL_law_857 ?_
      refine v_lcmp (pc := 858) C dL_law_858 ?_
      refine v_if_eq (pc := 859) (tgt := 864) C dL_law_859 rfl (fun hc => ?_) (fun hc => ?_)
      · rw [if_pos hc] at hf
        refine v_goto (pc := 864) (tgt := 3952) C dL_law_864 rfl ?_
        exact V.sub [1, 2, 3, 4, 5] rfl (vL_p3952 L k23 hf)
      · rw [if_neg hc] at hf
        refine v_iconst (pc := 862) (v := (0 : Int32)) C dL_law_862 rfl ?_
        exact hf.elim
  · rw [if_neg hc] at hf
    refine v_iconst (pc := 845) (v := (0 : Int32)) C dL_law_845 rfl ?_
    exact hf.elim
def wL_p798 (K23 : aD → aH → (Option Nat) → (Option Nat) → (Option Nat) → (Option Nat) → (Int32) → Prop) (D : aD) (h : aH) (a0 : Option Nat) (a1 : Option Nat) (a2 : Option Nat) (a3 : Option Nat) (a4 : Int32) (t0 : Option Nat) (t1 : Int32) (t2 : Int32) (t3 : Int32) : Prop :=
  w2 (fX0_setStroke D h t0 t1 t2 t3 a3) fun x1 h2 =>
  wCall D h2 fun D h3 =>
  wB (eI h3 a0 (a4 + (1 : Int32))) fun x4 =>
  wB (eI h3 a0 (a4 + (2 : Int32))) fun x5 =>
  wB (eI h3 a0 (a4 + (3 : Int32))) fun x6 =>
  if x6 = 0 then
  (wL_p831 K23 D h3 a0 a1 a2 a3 a4 x1 a2 x4 x5 (0 : Int32))
  else
  (wL_p831 K23 D h3 a0 a1 a2 a3 a4 x1 a2 x4 x5 (1 : Int32))
theorem vL_p798 {D : aD} {n0 : Nat} {h : aH} {K23 : aD → aH → (Option Nat) → (Option Nat) → (Option Nat) → (Option Nat) → (Int32) → Prop} {a0 : Option Nat} {a1 : Option Nat} {a2 : Option Nat} {a3 : Option Nat} {a4 : Int32} {t0 : Option Nat} {t1 : Int32} {t2 : Int32} {t3 : Int32} (L : lX p l s m meth c D n0 s0 27 3484) (k23 : ∀ (D : aD) (n0 : Nat) (L : lX p l s m meth c D n0 s0 27 3484) (h : aH) (a0 : Option Nat) (a1 : Option Nat) (a2 : Option Nat) (a3 : Option Nat) (a4 : Int32), K23 D h a0 a1 a2 a3 a4 → V p l e room_1 s m #[Value.ref b] below meth c D n0 s0 (lw_Z below #[Value.ref b] s) h 23 [(0, false, va_rf a0), (1, false, va_rf a1), (2, false, va_rf a2), (3, false, va_rf a3), (4, false, .int a4)] []) (hf : wL_p798 K23 D h a0 a1 a2 a3 a4 t0 t1 t2 t3) : V p l e room_1 s m #[Value.ref b] below meth c D n0 s0 (lw_Z below #[Value.ref b] s) h 798 [(0, false, va_rf a0), (1, false, va_rf a1), (2, false, va_rf a2), (3, false, va_rf a3), (4, false, .int a4)] [.int t3, .int t2, .int t1, va_rf t0] := by
  have C := L.1
  unfold wL_p798 at hf
  refine v_aload_n (pc := 798) (j := 3) C dL_law_798 rfl rfl ?_
  obtain ⟨x1, h2, ex1, ox1, hf⟩ := hf
  refine v_wcall (pc := 799) (As := [va_rf t0, .int t1, .int t2, .int t3, va_rf a3]) (rest := []) C L.2.2.2.2.2.1 q1842 q1843 q1844 q73 ⟨by decide +kernel, by decide +kernel⟩ (n9 := 5) (by decide +kernel) rfl (by decide) (by decide) (Nat.le_trans aw_0 (by decide)) rfl (mX0_setStroke C.st ex1) dL_law_799 ox1.1 (by have := L.2.1; have := ox1.2.1; omega) fun D1 h3 hs => ?_
  have L := L.step (by have := L.2.1; have := ox1.2.1; omega) hs (by have := L.2.1; have := ox1.2.2; have := L.2.2.2.2.2.2; omega)
  have hf := hf D1 h3 hs
  have C := L.1
  refine v_istore (pc := 802) (lv' := [(5, false, .int x1), (0, false, va_rf a0), (1, false, va_rf a1), (2, false, va_rf a2), (3, false, va_rf a3), (4, false, .int a4)]) C dL_law_802 (by decide) rfl ?_
  refine v_aload_n (pc := 804) (j := 3) C dL_law_804 rfl rfl ?_
  refine v_aload_n (pc := 805) (j := 1) C dL_law_805 rfl rfl ?_
  refine v_iload (pc := 806) (j := 5) C dL_law_806 rfl ?_
  refine v_iconst (pc := 808) (v := (1 : Int32)) C dL_law_808 rfl ?_
  refine v_iadd (pc := 809) C dL_law_809 ?_
  obtain ⟨x4, ex4, hf⟩ := hf
  refine v_iaload (pc := 810) C ex4 dL_law_810 ?_
  refine v_aload_n (pc := 811) (j := 1) C dL_law_811 rfl rfl ?_
  refine v_iload (pc := 812) (j := 5) C dL_law_812 rfl ?_
  refine v_iconst (pc := 814) (v := (2 : Int32)) C dL_law_814 rfl ?_
  refine v_iadd (pc := 815) C dL_law_815 ?_
  obtain ⟨x5, ex5, hf⟩ := hf
  refine v_iaload (pc := 816) C ex5 dL_law_816 ?_
  refine v_aload_n (pc := 817) (j := 1) C dL_law_817 rfl rfl ?_
  refine v_iload (pc := 818) (j := 5) C dL_law_818 rfl ?_
  refine v_iconst (pc := 820) (v := (3 : Int32)) C dL_law_820 rfl ?_
  refine v_iadd (pc := 821) C dL_law_821 ?_
  obtain ⟨x6, ex6, hf⟩ := hf
  refine v_iaload (pc := 822) C ex6 dL_law_822 ?_
  refine v_if_eq (pc := 823) (tgt := 830) C dL_law_823 rfl (fun hc => ?_) (fun hc => ?_)
  · rw [if_pos hc] at hf
    refine v_iconst (pc := 830) (v := (0 : Int32)) C dL_law_830 rfl ?_
    exact V.sub [1, 2, 3, 4, 5, 0] rfl (vL_p831 L k23 hf)
  · rw [if_neg hc] at hf
    refine v_iconst (pc := 826) (v := (1 : Int32)) C dL_law_826 rfl ?_
    refine v_goto (pc := 827) (tgt := 831) C dL_law_827 rfl ?_
    exact V.sub [1, 2, 3, 4, 5, 0] rfl (vL_p831 L k23 hf)
def wL_p2327 (K23 : aD → aH → (Option Nat) → (Option Nat) → (Option Nat) → (Option Nat) → (Int32) → Prop) (D : aD) (h : aH) (a0 : Option Nat) (a1 : Option Nat) (a2 : Option Nat) (a3 : Option Nat) (a4 : Int32) (t0 : Int64) (t1 : Int64) : Prop :=
  if (lg_cmp t0 t1) = 0 then
  (wL_p3952 K23 D h a0 a1 a2 a3 a4)
  else
  (False)
theorem vL_p2327 {D : aD} {n0 : Nat} {h : aH} {K23 : aD → aH → (Option Nat) → (Option Nat) → (Option Nat) → (Option Nat) → (Int32) → Prop} {a0 : Option Nat} {a1 : Option Nat} {a2 : Option Nat} {a3 : Option Nat} {a4 : Int32} {t0 : Int64} {t1 : Int64} (L : lX p l s m meth c D n0 s0 27 3484) (k23 : ∀ (D : aD) (n0 : Nat) (L : lX p l s m meth c D n0 s0 27 3484) (h : aH) (a0 : Option Nat) (a1 : Option Nat) (a2 : Option Nat) (a3 : Option Nat) (a4 : Int32), K23 D h a0 a1 a2 a3 a4 → V p l e room_1 s m #[Value.ref b] below meth c D n0 s0 (lw_Z below #[Value.ref b] s) h 23 [(0, false, va_rf a0), (1, false, va_rf a1), (2, false, va_rf a2), (3, false, va_rf a3), (4, false, .int a4)] []) (hf : wL_p2327 K23 D h a0 a1 a2 a3 a4 t0 t1) : V p l e room_1 s m #[Value.ref b] below meth c D n0 s0 (lw_Z below #[Value.ref b] s) h 2327 [(0, false, va_rf a0), (1, false, va_rf a1), (2, false, va_rf a2), (3, false, va_rf a3), (4, false, .int a4)] [.long t1, .long t0] := by
  have C := L.1
  unfold wL_p2327 at hf
  refine v_lcmp (pc := 2327) C dL_law_2327 ?_
  refine v_if_eq (pc := 2328) (tgt := 2333) C dL_law_2328 rfl (fun hc => ?_) (fun hc => ?_)
  · rw [if_pos hc] at hf
    refine v_goto (pc := 2333) (tgt := 3952) C dL_law_2333 rfl ?_
    exact V.sub [0, 1, 2, 3, 4] rfl (vL_p3952 L k23 hf)
  · rw [if_neg hc] at hf
    refine v_iconst (pc := 2331) (v := (0 : Int32)) C dL_law_2331 rfl ?_
    exact hf.elim
def wL_p2496 (K23 : aD → aH → (Option Nat) → (Option Nat) → (Option Nat) → (Option Nat) → (Int32) → Prop) (D : aD) (h : aH) (a0 : Option Nat) (a1 : Option Nat) (a2 : Option Nat) (a3 : Option Nat) (a4 : Int32) (a5 : Int32) (t0 : Option Nat) (t1 : Int32) (t2 : Int32) : Prop :=
  wB (aIs h 1 t0) fun _ =>
  w2 (fX2_reasonFor D h t0 t1 t2) fun x2 h3 =>
  wB (aIs h3 1 a2) fun _ =>
  wB (fX2_thrown D h3 a2) fun x5 =>
  if x5 = a5 then
  (if a5 = 0 then
  (wB (eL h3 a3 (0 : Int32)) fun x7 =>
  if (lg_cmp x7 x2.toInt64) = 0 then
  (wL_p3952 K23 D h3 a0 a1 a2 a3 a4)
  else
  (False))
  else
  (wL_p3952 K23 D h3 a0 a1 a2 a3 a4))
  else
  (False)
theorem vL_p2496 {D : aD} {n0 : Nat} {h : aH} {K23 : aD → aH → (Option Nat) → (Option Nat) → (Option Nat) → (Option Nat) → (Int32) → Prop} {a0 : Option Nat} {a1 : Option Nat} {a2 : Option Nat} {a3 : Option Nat} {a4 : Int32} {a5 : Int32} {t0 : Option Nat} {t1 : Int32} {t2 : Int32} (L : lX p l s m meth c D n0 s0 27 3484) (k23 : ∀ (D : aD) (n0 : Nat) (L : lX p l s m meth c D n0 s0 27 3484) (h : aH) (a0 : Option Nat) (a1 : Option Nat) (a2 : Option Nat) (a3 : Option Nat) (a4 : Int32), K23 D h a0 a1 a2 a3 a4 → V p l e room_1 s m #[Value.ref b] below meth c D n0 s0 (lw_Z below #[Value.ref b] s) h 23 [(0, false, va_rf a0), (1, false, va_rf a1), (2, false, va_rf a2), (3, false, va_rf a3), (4, false, .int a4)] []) (hf : wL_p2496 K23 D h a0 a1 a2 a3 a4 a5 t0 t1 t2) : V p l e room_1 s m #[Value.ref b] below meth c D n0 s0 (lw_Z below #[Value.ref b] s) h 2496 [(0, false, va_rf a0), (1, false, va_rf a1), (2, false, va_rf a2), (3, false, va_rf a3), (4, false, .int a4), (5, false, .int a5)] [.int t2, .int t1, va_rf t0] := by
  have C := L.1
  unfold wL_p2496 at hf
  obtain ⟨b1, eb1, hf⟩ := hf
  obtain ⟨rb1, _, kb1⟩ := aIs_eq eb1
  obtain ⟨x2, h3, ex2, hf⟩ := hf
  refine v_call (pc := 2496) (d_V (pc := 2496) C (As := [.int t1, .int t2]) (rest := []) rb1 kb1 nt_1 q2792 yi_X2_reasonFor_FigureSurveyModel yk_X2_reasonFor rfl (by decide) (by decide) (Nat.le_trans aw_0 (by decide)) rfl (mX2_reasonFor C.st ex2) dL_law_2496) ?_
  refine v_istore (pc := 2499) (lv' := [(6, false, .int x2), (0, false, va_rf a0), (1, false, va_rf a1), (2, false, va_rf a2), (3, false, va_rf a3), (4, false, .int a4), (5, false, .int a5)]) C dL_law_2499 (by decide) rfl ?_
  refine v_aload_n (pc := 2501) (j := 3) C dL_law_2501 rfl rfl ?_
  obtain ⟨b4, eb4, hf⟩ := hf
  obtain ⟨rb4, _, kb4⟩ := aIs_eq eb4
  obtain ⟨x5, ex5, hf⟩ := hf
  refine v_call (pc := 2502) (d_V (pc := 2502) C (As := []) (rest := []) rb4 kb4 nt_1 q2487 yi_X2_thrown_FigureSurveyModel yk_X2_thrown rfl (by decide) (by decide) (Nat.le_trans aw_0 (by decide)) rfl (mX2_thrown C.st ex5) dL_law_2502) ?_
  refine v_iload (pc := 2505) (j := 6) C dL_law_2505 rfl ?_
  refine v_icmp_eq (pc := 2507) (tgt := 2512) C dL_law_2507 rfl (fun hc => ?_) (fun hc => ?_)
  · rw [if_pos hc] at hf
    refine v_iload (pc := 2512) (j := 6) C dL_law_2512 rfl ?_
    refine v_if_ne (pc := 2514) (tgt := 2529) C dL_law_2514 rfl (fun hc => ?_) (fun hc => ?_)
    · rw [if_neg hc] at hf
      refine v_goto (pc := 2529) (tgt := 3952) C dL_law_2529 rfl ?_
      exact V.sub [1, 2, 3, 4, 5] rfl (vL_p3952 L k23 hf)
    · rw [if_pos (Decidable.of_not_not hc)] at hf
      refine v_aload_n (pc := 2517) (j := 4) C dL_law_2517 rfl rfl ?_
      refine v_iconst (pc := 2518) (v := (0 : Int32)) C dL_law_2518 rfl ?_
      obtain ⟨x7, ex7, hf⟩ := hf
      refine v_laload (pc := 2519) C ex7 dL_law_2519 ?_
      refine v_iload (pc := 2520) (j := 0) C dL_law_2520 rfl ?_
      refine v_i2l (pc := 2522) C dL_law_2522 ?_
      refine v_lcmp (pc := 2523) C dL_law_2523 ?_
      refine v_if_eq (pc := 2524) (tgt := 2529) C dL_law_2524 rfl (fun hc => ?_) (fun hc => ?_)
      · rw [if_pos hc] at hf
        refine v_goto (pc := 2529) (tgt := 3952) C dL_law_2529 rfl ?_
        exact V.sub [1, 2, 3, 4, 5] rfl (vL_p3952 L k23 hf)
      · rw [if_neg hc] at hf
        refine v_iconst (pc := 2527) (v := (0 : Int32)) C dL_law_2527 rfl ?_
        exact hf.elim
  · rw [if_neg hc] at hf
    refine v_iconst (pc := 2510) (v := (0 : Int32)) C dL_law_2510 rfl ?_
    exact hf.elim
def wL_p2469 (K23 : aD → aH → (Option Nat) → (Option Nat) → (Option Nat) → (Option Nat) → (Int32) → Prop) (D : aD) (h : aH) (a0 : Option Nat) (a1 : Option Nat) (a2 : Option Nat) (a3 : Option Nat) (a4 : Int32) (t0 : Option Nat) (t1 : Int32) (t2 : Int32) : Prop :=
  w2 (fX0_reasonFor D h t0 t1 t2 a3) fun x1 h2 =>
  wCall D h2 fun D h3 =>
  wB (eI h3 a0 (a4 + (1 : Int32))) fun x4 =>
  wB (eI h3 a0 (a4 + (2 : Int32))) fun x5 =>
  if x5 = 0 then
  (wL_p2496 K23 D h3 a0 a1 a2 a3 a4 x1 a2 x4 (0 : Int32))
  else
  (wL_p2496 K23 D h3 a0 a1 a2 a3 a4 x1 a2 x4 (1 : Int32))
theorem vL_p2469 {D : aD} {n0 : Nat} {h : aH} {K23 : aD → aH → (Option Nat) → (Option Nat) → (Option Nat) → (Option Nat) → (Int32) → Prop} {a0 : Option Nat} {a1 : Option Nat} {a2 : Option Nat} {a3 : Option Nat} {a4 : Int32} {t0 : Option Nat} {t1 : Int32} {t2 : Int32} (L : lX p l s m meth c D n0 s0 27 3484) (k23 : ∀ (D : aD) (n0 : Nat) (L : lX p l s m meth c D n0 s0 27 3484) (h : aH) (a0 : Option Nat) (a1 : Option Nat) (a2 : Option Nat) (a3 : Option Nat) (a4 : Int32), K23 D h a0 a1 a2 a3 a4 → V p l e room_1 s m #[Value.ref b] below meth c D n0 s0 (lw_Z below #[Value.ref b] s) h 23 [(0, false, va_rf a0), (1, false, va_rf a1), (2, false, va_rf a2), (3, false, va_rf a3), (4, false, .int a4)] []) (hf : wL_p2469 K23 D h a0 a1 a2 a3 a4 t0 t1 t2) : V p l e room_1 s m #[Value.ref b] below meth c D n0 s0 (lw_Z below #[Value.ref b] s) h 2469 [(0, false, va_rf a0), (1, false, va_rf a1), (2, false, va_rf a2), (3, false, va_rf a3), (4, false, .int a4)] [.int t2, .int t1, va_rf t0] := by
  have C := L.1
  unfold wL_p2469 at hf
  refine v_aload_n (pc := 2469) (j := 3) C dL_law_2469 rfl rfl ?_
  obtain ⟨x1, h2, ex1, ox1, hf⟩ := hf
  refine v_wcall (pc := 2470) (As := [va_rf t0, .int t1, .int t2, va_rf a3]) (rest := []) C L.2.2.2.2.2.1 q2171 q2172 q2173 q73 ⟨by decide +kernel, by decide +kernel⟩ (n9 := 4) (by decide +kernel) rfl (by decide) (by decide) (Nat.le_trans aw_0 (by decide)) rfl (mX0_reasonFor C.st ex1) dL_law_2470 ox1.1 (by have := L.2.1; have := ox1.2.1; omega) fun D1 h3 hs => ?_
  have L := L.step (by have := L.2.1; have := ox1.2.1; omega) hs (by have := L.2.1; have := ox1.2.2; have := L.2.2.2.2.2.2; omega)
  have hf := hf D1 h3 hs
  have C := L.1
  refine v_istore (pc := 2473) (lv' := [(5, false, .int x1), (0, false, va_rf a0), (1, false, va_rf a1), (2, false, va_rf a2), (3, false, va_rf a3), (4, false, .int a4)]) C dL_law_2473 (by decide) rfl ?_
  refine v_aload_n (pc := 2475) (j := 3) C dL_law_2475 rfl rfl ?_
  refine v_aload_n (pc := 2476) (j := 1) C dL_law_2476 rfl rfl ?_
  refine v_iload (pc := 2477) (j := 5) C dL_law_2477 rfl ?_
  refine v_iconst (pc := 2479) (v := (1 : Int32)) C dL_law_2479 rfl ?_
  refine v_iadd (pc := 2480) C dL_law_2480 ?_
  obtain ⟨x4, ex4, hf⟩ := hf
  refine v_iaload (pc := 2481) C ex4 dL_law_2481 ?_
  refine v_aload_n (pc := 2482) (j := 1) C dL_law_2482 rfl rfl ?_
  refine v_iload (pc := 2483) (j := 5) C dL_law_2483 rfl ?_
  refine v_iconst (pc := 2485) (v := (2 : Int32)) C dL_law_2485 rfl ?_
  refine v_iadd (pc := 2486) C dL_law_2486 ?_
  obtain ⟨x5, ex5, hf⟩ := hf
  refine v_iaload (pc := 2487) C ex5 dL_law_2487 ?_
  refine v_if_eq (pc := 2488) (tgt := 2495) C dL_law_2488 rfl (fun hc => ?_) (fun hc => ?_)
  · rw [if_pos hc] at hf
    refine v_iconst (pc := 2495) (v := (0 : Int32)) C dL_law_2495 rfl ?_
    exact V.sub [1, 2, 3, 4, 5, 0] rfl (vL_p2496 L k23 hf)
  · rw [if_neg hc] at hf
    refine v_iconst (pc := 2491) (v := (1 : Int32)) C dL_law_2491 rfl ?_
    refine v_goto (pc := 2492) (tgt := 2496) C dL_law_2492 rfl ?_
    exact V.sub [1, 2, 3, 4, 5, 0] rfl (vL_p2496 L k23 hf)
def wL_p3102 (K23 : aD → aH → (Option Nat) → (Option Nat) → (Option Nat) → (Option Nat) → (Int32) → Prop) (D : aD) (h : aH) (a0 : Option Nat) (a1 : Option Nat) (a2 : Option Nat) (a3 : Option Nat) (a4 : Int32) (t0 : Int64) (t1 : Int64) : Prop :=
  if (lg_cmp t0 t1) = 0 then
  (wL_p3952 K23 D h a0 a1 a2 a3 a4)
  else
  (False)
theorem vL_p3102 {D : aD} {n0 : Nat} {h : aH} {K23 : aD → aH → (Option Nat) → (Option Nat) → (Option Nat) → (Option Nat) → (Int32) → Prop} {a0 : Option Nat} {a1 : Option Nat} {a2 : Option Nat} {a3 : Option Nat} {a4 : Int32} {t0 : Int64} {t1 : Int64} (L : lX p l s m meth c D n0 s0 27 3484) (k23 : ∀ (D : aD) (n0 : Nat) (L : lX p l s m meth c D n0 s0 27 3484) (h : aH) (a0 : Option Nat) (a1 : Option Nat) (a2 : Option Nat) (a3 : Option Nat) (a4 : Int32), K23 D h a0 a1 a2 a3 a4 → V p l e room_1 s m #[Value.ref b] below meth c D n0 s0 (lw_Z below #[Value.ref b] s) h 23 [(0, false, va_rf a0), (1, false, va_rf a1), (2, false, va_rf a2), (3, false, va_rf a3), (4, false, .int a4)] []) (hf : wL_p3102 K23 D h a0 a1 a2 a3 a4 t0 t1) : V p l e room_1 s m #[Value.ref b] below meth c D n0 s0 (lw_Z below #[Value.ref b] s) h 3102 [(0, false, va_rf a0), (1, false, va_rf a1), (2, false, va_rf a2), (3, false, va_rf a3), (4, false, .int a4)] [.long t1, .long t0] := by
  have C := L.1
  unfold wL_p3102 at hf
  refine v_lcmp (pc := 3102) C dL_law_3102 ?_
  refine v_if_eq (pc := 3103) (tgt := 3108) C dL_law_3103 rfl (fun hc => ?_) (fun hc => ?_)
  · rw [if_pos hc] at hf
    refine v_goto (pc := 3108) (tgt := 3952) C dL_law_3108 rfl ?_
    exact V.sub [0, 1, 2, 3, 4] rfl (vL_p3952 L k23 hf)
  · rw [if_neg hc] at hf
    refine v_iconst (pc := 3106) (v := (0 : Int32)) C dL_law_3106 rfl ?_
    exact hf.elim
def wL_p3068 (K23 : aD → aH → (Option Nat) → (Option Nat) → (Option Nat) → (Option Nat) → (Int32) → Prop) (D : aD) (h : aH) (a0 : Option Nat) (a1 : Option Nat) (a2 : Option Nat) (a3 : Option Nat) (a4 : Int32) (a5 : Int32) (t0 : Option Nat) (t1 : Int32) (t2 : Int32) (t3 : Int32) : Prop :=
  wB (aIs h 1 t0) fun _ =>
  w2 (fX2_setRight D h t0 t1 t2 t3) fun x2 h3 =>
  wB (aIs h3 1 a2) fun _ =>
  wB (fX2_thrown D h3 a2) fun x5 =>
  if x5 = a5 then
  (if a5 = 0 then
  (wB (eL h3 a3 (0 : Int32)) fun x7 =>
  if x2 = 0 then
  (wL_p3102 K23 D h3 a0 a1 a2 a3 a4 x7 (0 : Int64))
  else
  (wL_p3102 K23 D h3 a0 a1 a2 a3 a4 x7 (1 : Int64)))
  else
  (wL_p3952 K23 D h3 a0 a1 a2 a3 a4))
  else
  (False)
theorem vL_p3068 {D : aD} {n0 : Nat} {h : aH} {K23 : aD → aH → (Option Nat) → (Option Nat) → (Option Nat) → (Option Nat) → (Int32) → Prop} {a0 : Option Nat} {a1 : Option Nat} {a2 : Option Nat} {a3 : Option Nat} {a4 : Int32} {a5 : Int32} {t0 : Option Nat} {t1 : Int32} {t2 : Int32} {t3 : Int32} (L : lX p l s m meth c D n0 s0 27 3484) (k23 : ∀ (D : aD) (n0 : Nat) (L : lX p l s m meth c D n0 s0 27 3484) (h : aH) (a0 : Option Nat) (a1 : Option Nat) (a2 : Option Nat) (a3 : Option Nat) (a4 : Int32), K23 D h a0 a1 a2 a3 a4 → V p l e room_1 s m #[Value.ref b] below meth c D n0 s0 (lw_Z below #[Value.ref b] s) h 23 [(0, false, va_rf a0), (1, false, va_rf a1), (2, false, va_rf a2), (3, false, va_rf a3), (4, false, .int a4)] []) (hf : wL_p3068 K23 D h a0 a1 a2 a3 a4 a5 t0 t1 t2 t3) : V p l e room_1 s m #[Value.ref b] below meth c D n0 s0 (lw_Z below #[Value.ref b] s) h 3068 [(0, false, va_rf a0), (1, false, va_rf a1), (2, false, va_rf a2), (3, false, va_rf a3), (4, false, .int a4), (5, false, .int a5)] [.int t3, .int t2, .int t1, va_rf t0] := by
  have C := L.1
  unfold wL_p3068 at hf
  obtain ⟨b1, eb1, hf⟩ := hf
  obtain ⟨rb1, _, kb1⟩ := aIs_eq eb1
  obtain ⟨x2, h3, ex2, hf⟩ := hf
  refine v_call (pc := 3068) (d_V (pc := 3068) C (As := [.int t1, .int t2, .int t3]) (rest := []) rb1 kb1 nt_1 q2838 yi_X2_setRight_FigureSurveyModel yk_X2_setRight rfl (by decide) (by decide) (Nat.le_trans aw_0 (by decide)) rfl (mX2_setRight C.st ex2) dL_law_3068) ?_
  refine v_istore (pc := 3071) (lv' := [(6, false, .int x2), (0, false, va_rf a0), (1, false, va_rf a1), (2, false, va_rf a2), (3, false, va_rf a3), (4, false, .int a4), (5, false, .int a5)]) C dL_law_3071 (by decide) rfl ?_
  refine v_aload_n (pc := 3073) (j := 3) C dL_law_3073 rfl rfl ?_
  obtain ⟨b4, eb4, hf⟩ := hf
  obtain ⟨rb4, _, kb4⟩ := aIs_eq eb4
  obtain ⟨x5, ex5, hf⟩ := hf
  refine v_call (pc := 3074) (d_V (pc := 3074) C (As := []) (rest := []) rb4 kb4 nt_1 q2487 yi_X2_thrown_FigureSurveyModel yk_X2_thrown rfl (by decide) (by decide) (Nat.le_trans aw_0 (by decide)) rfl (mX2_thrown C.st ex5) dL_law_3074) ?_
  refine v_iload (pc := 3077) (j := 6) C dL_law_3077 rfl ?_
  refine v_icmp_eq (pc := 3079) (tgt := 3084) C dL_law_3079 rfl (fun hc => ?_) (fun hc => ?_)
  · rw [if_pos hc] at hf
    refine v_iload (pc := 3084) (j := 6) C dL_law_3084 rfl ?_
    refine v_if_ne (pc := 3086) (tgt := 3108) C dL_law_3086 rfl (fun hc => ?_) (fun hc => ?_)
    · rw [if_neg hc] at hf
      refine v_goto (pc := 3108) (tgt := 3952) C dL_law_3108 rfl ?_
      exact V.sub [1, 2, 3, 4, 5] rfl (vL_p3952 L k23 hf)
    · rw [if_pos (Decidable.of_not_not hc)] at hf
      refine v_aload_n (pc := 3089) (j := 4) C dL_law_3089 rfl rfl ?_
      refine v_iconst (pc := 3090) (v := (0 : Int32)) C dL_law_3090 rfl ?_
      obtain ⟨x7, ex7, hf⟩ := hf
      refine v_laload (pc := 3091) C ex7 dL_law_3091 ?_
      refine v_iload (pc := 3092) (j := 0) C dL_law_3092 rfl ?_
      refine v_if_eq (pc := 3094) (tgt := 3101) C dL_law_3094 rfl (fun hc => ?_) (fun hc => ?_)
      · rw [if_pos hc] at hf
        refine v_lconst (pc := 3101) (v := (0 : Int64)) C dL_law_3101 rfl ?_
        exact V.sub [1, 2, 3, 4, 5] rfl (vL_p3102 L k23 hf)
      · rw [if_neg hc] at hf
        refine v_lconst (pc := 3097) (v := (1 : Int64)) C dL_law_3097 rfl ?_
        refine v_goto (pc := 3098) (tgt := 3102) C dL_law_3098 rfl ?_
        exact V.sub [1, 2, 3, 4, 5] rfl (vL_p3102 L k23 hf)
  · rw [if_neg hc] at hf
    refine v_iconst (pc := 3082) (v := (0 : Int32)) C dL_law_3082 rfl ?_
    exact hf.elim
def wL_p3035 (K23 : aD → aH → (Option Nat) → (Option Nat) → (Option Nat) → (Option Nat) → (Int32) → Prop) (D : aD) (h : aH) (a0 : Option Nat) (a1 : Option Nat) (a2 : Option Nat) (a3 : Option Nat) (a4 : Int32) (t0 : Option Nat) (t1 : Int32) (t2 : Int32) (t3 : Int32) : Prop :=
  w2 (fX0_setRight D h t0 t1 t2 t3 a3) fun x1 h2 =>
  wCall D h2 fun D h3 =>
  wB (eI h3 a0 (a4 + (1 : Int32))) fun x4 =>
  wB (eI h3 a0 (a4 + (2 : Int32))) fun x5 =>
  wB (eI h3 a0 (a4 + (3 : Int32))) fun x6 =>
  if x6 = 0 then
  (wL_p3068 K23 D h3 a0 a1 a2 a3 a4 x1 a2 x4 x5 (0 : Int32))
  else
  (wL_p3068 K23 D h3 a0 a1 a2 a3 a4 x1 a2 x4 x5 (1 : Int32))
theorem vL_p3035 {D : aD} {n0 : Nat} {h : aH} {K23 : aD → aH → (Option Nat) → (Option Nat) → (Option Nat) → (Option Nat) → (Int32) → Prop} {a0 : Option Nat} {a1 : Option Nat} {a2 : Option Nat} {a3 : Option Nat} {a4 : Int32} {t0 : Option Nat} {t1 : Int32} {t2 : Int32} {t3 : Int32} (L : lX p l s m meth c D n0 s0 27 3484) (k23 : ∀ (D : aD) (n0 : Nat) (L : lX p l s m meth c D n0 s0 27 3484) (h : aH) (a0 : Option Nat) (a1 : Option Nat) (a2 : Option Nat) (a3 : Option Nat) (a4 : Int32), K23 D h a0 a1 a2 a3 a4 → V p l e room_1 s m #[Value.ref b] below meth c D n0 s0 (lw_Z below #[Value.ref b] s) h 23 [(0, false, va_rf a0), (1, false, va_rf a1), (2, false, va_rf a2), (3, false, va_rf a3), (4, false, .int a4)] []) (hf : wL_p3035 K23 D h a0 a1 a2 a3 a4 t0 t1 t2 t3) : V p l e room_1 s m #[Value.ref b] below meth c D n0 s0 (lw_Z below #[Value.ref b] s) h 3035 [(0, false, va_rf a0), (1, false, va_rf a1), (2, false, va_rf a2), (3, false, va_rf a3), (4, false, .int a4)] [.int t3, .int t2, .int t1, va_rf t0] := by
  have C := L.1
  unfold wL_p3035 at hf
  refine v_aload_n (pc := 3035) (j := 3) C dL_law_3035 rfl rfl ?_
  obtain ⟨x1, h2, ex1, ox1, hf⟩ := hf
  refine v_wcall (pc := 3036) (As := [va_rf t0, .int t1, .int t2, .int t3, va_rf a3]) (rest := []) C L.2.2.2.2.2.1 q2292 q2293 q2294 q73 ⟨by decide +kernel, by decide +kernel⟩ (n9 := 5) (by decide +kernel) rfl (by decide) (by decide) (Nat.le_trans aw_0 (by decide)) rfl (mX0_setRight C.st ex1) dL_law_3036 ox1.1 (by have := L.2.1; have := ox1.2.1; omega) fun D1 h3 hs => ?_
  have L := L.step (by have := L.2.1; have := ox1.2.1; omega) hs (by have := L.2.1; have := ox1.2.2; have := L.2.2.2.2.2.2; omega)
  have hf := hf D1 h3 hs
  have C := L.1
  refine v_istore (pc := 3039) (lv' := [(5, false, .int x1), (0, false, va_rf a0), (1, false, va_rf a1), (2, false, va_rf a2), (3, false, va_rf a3), (4, false, .int a4)]) C dL_law_3039 (by decide) rfl ?_
  refine v_aload_n (pc := 3041) (j := 3) C dL_law_3041 rfl rfl ?_
  refine v_aload_n (pc := 3042) (j := 1) C dL_law_3042 rfl rfl ?_
  refine v_iload (pc := 3043) (j := 5) C dL_law_3043 rfl ?_
  refine v_iconst (pc := 3045) (v := (1 : Int32)) C dL_law_3045 rfl ?_
  refine v_iadd (pc := 3046) C dL_law_3046 ?_
  obtain ⟨x4, ex4, hf⟩ := hf
  refine v_iaload (pc := 3047) C ex4 dL_law_3047 ?_
  refine v_aload_n (pc := 3048) (j := 1) C dL_law_3048 rfl rfl ?_
  refine v_iload (pc := 3049) (j := 5) C dL_law_3049 rfl ?_
  refine v_iconst (pc := 3051) (v := (2 : Int32)) C dL_law_3051 rfl ?_
  refine v_iadd (pc := 3052) C dL_law_3052 ?_
  obtain ⟨x5, ex5, hf⟩ := hf
  refine v_iaload (pc := 3053) C ex5 dL_law_3053 ?_
  refine v_aload_n (pc := 3054) (j := 1) C dL_law_3054 rfl rfl ?_
  refine v_iload (pc := 3055) (j := 5) C dL_law_3055 rfl ?_
  refine v_iconst (pc := 3057) (v := (3 : Int32)) C dL_law_3057 rfl ?_
  refine v_iadd (pc := 3058) C dL_law_3058 ?_
  obtain ⟨x6, ex6, hf⟩ := hf
  refine v_iaload (pc := 3059) C ex6 dL_law_3059 ?_
  refine v_if_eq (pc := 3060) (tgt := 3067) C dL_law_3060 rfl (fun hc => ?_) (fun hc => ?_)
  · rw [if_pos hc] at hf
    refine v_iconst (pc := 3067) (v := (0 : Int32)) C dL_law_3067 rfl ?_
    exact V.sub [1, 2, 3, 4, 5, 0] rfl (vL_p3068 L k23 hf)
  · rw [if_neg hc] at hf
    refine v_iconst (pc := 3063) (v := (1 : Int32)) C dL_law_3063 rfl ?_
    refine v_goto (pc := 3064) (tgt := 3068) C dL_law_3064 rfl ?_
    exact V.sub [1, 2, 3, 4, 5, 0] rfl (vL_p3068 L k23 hf)
def wL_p3833 (K23 : aD → aH → (Option Nat) → (Option Nat) → (Option Nat) → (Option Nat) → (Int32) → Prop) (D : aD) (h : aH) (a0 : Option Nat) (a1 : Option Nat) (a2 : Option Nat) (a3 : Option Nat) (a4 : Int32) (t0 : Int64) (t1 : Int64) : Prop :=
  if (lg_cmp t0 t1) = 0 then
  (wL_p3952 K23 D h a0 a1 a2 a3 a4)
  else
  (False)
theorem vL_p3833 {D : aD} {n0 : Nat} {h : aH} {K23 : aD → aH → (Option Nat) → (Option Nat) → (Option Nat) → (Option Nat) → (Int32) → Prop} {a0 : Option Nat} {a1 : Option Nat} {a2 : Option Nat} {a3 : Option Nat} {a4 : Int32} {t0 : Int64} {t1 : Int64} (L : lX p l s m meth c D n0 s0 27 3484) (k23 : ∀ (D : aD) (n0 : Nat) (L : lX p l s m meth c D n0 s0 27 3484) (h : aH) (a0 : Option Nat) (a1 : Option Nat) (a2 : Option Nat) (a3 : Option Nat) (a4 : Int32), K23 D h a0 a1 a2 a3 a4 → V p l e room_1 s m #[Value.ref b] below meth c D n0 s0 (lw_Z below #[Value.ref b] s) h 23 [(0, false, va_rf a0), (1, false, va_rf a1), (2, false, va_rf a2), (3, false, va_rf a3), (4, false, .int a4)] []) (hf : wL_p3833 K23 D h a0 a1 a2 a3 a4 t0 t1) : V p l e room_1 s m #[Value.ref b] below meth c D n0 s0 (lw_Z below #[Value.ref b] s) h 3833 [(0, false, va_rf a0), (1, false, va_rf a1), (2, false, va_rf a2), (3, false, va_rf a3), (4, false, .int a4)] [.long t1, .long t0] := by
  have C := L.1
  unfold wL_p3833 at hf
  refine v_lcmp (pc := 3833) C dL_law_3833 ?_
  refine v_if_eq (pc := 3834) (tgt := 3839) C dL_law_3834 rfl (fun hc => ?_) (fun hc => ?_)
  · rw [if_pos hc] at hf
    refine v_goto (pc := 3839) (tgt := 3952) C dL_law_3839 rfl ?_
    exact V.sub [0, 1, 2, 3, 4] rfl (vL_p3952 L k23 hf)
  · rw [if_neg hc] at hf
    refine v_iconst (pc := 3837) (v := (0 : Int32)) C dL_law_3837 rfl ?_
    exact hf.elim
def wL_p23 : Nat → aD → aH → (Option Nat) → (Option Nat) → (Option Nat) → (Option Nat) → (Int32) → Prop
  | 0, _, _, _, _, _, _, _ => False
  | n + 1, D, h, a0, a1, a2, a3, a4 =>
  wB (eN h a0) fun x1 =>
  if (x1 - (5 : Int32)) < a4 then
  (True)
  else
  (wB (eI h a0 a4) fun x2 =>
  if (x2 &&& (63 : Int32)) < 0 ∨ 55 < (x2 &&& (63 : Int32)) then
  (wL_p3952 (wL_p23 n) D h a0 a1 a2 a3 a4)
  else if (x2 &&& (63 : Int32)) = (0 : Int32) then
  (wB (eI h a0 (a4 + (1 : Int32))) fun x693 =>
  w2 (fX0_addPanel D h a1 x693 a3) fun x694 h695 =>
  wCall D h695 fun D h696 =>
  wB (eI h696 a0 (a4 + (1 : Int32))) fun x697 =>
  wB (aIs h696 1 a2) fun _ =>
  w2 (fX2_addPanel D h696 a2 x697) fun x699 h700 =>
  wB (aIs h700 1 a2) fun _ =>
  wB (fX2_thrown D h700 a2) fun x702 =>
  if x702 = x694 then
  (if x694 = 0 then
  (wB (eL h700 a3 (0 : Int32)) fun x704 =>
  if (lg_cmp x704 x699.toInt64) = 0 then
  (wL_p3952 (wL_p23 n) D h700 a0 a1 a2 a3 a4)
  else
  (False))
  else
  (wL_p3952 (wL_p23 n) D h700 a0 a1 a2 a3 a4))
  else
  (False))
  else if (x2 &&& (63 : Int32)) = (1 : Int32) then
  (wB (eI h a0 (a4 + (1 : Int32))) fun x677 =>
  wB (eI h a0 (a4 + (2 : Int32))) fun x678 =>
  wB (eI h a0 (a4 + (3 : Int32))) fun x679 =>
  w2 (fX0_setDepth D h a1 x677 x678 x679 a3) fun x680 h681 =>
  wCall D h681 fun D h682 =>
  wB (eI h682 a0 (a4 + (1 : Int32))) fun x683 =>
  wB (eI h682 a0 (a4 + (2 : Int32))) fun x684 =>
  wB (eI h682 a0 (a4 + (3 : Int32))) fun x685 =>
  wB (aIs h682 1 a2) fun _ =>
  w2 (fX2_setDepth D h682 a2 x683 x684 x685) fun x687 h688 =>
  wB (aIs h688 1 a2) fun _ =>
  wB (fX2_thrown D h688 a2) fun x690 =>
  if x690 = x680 then
  (if x680 = 0 then
  (wB (eL h688 a3 (0 : Int32)) fun x692 =>
  if (lg_cmp x692 x687.toInt64) = 0 then
  (wL_p3952 (wL_p23 n) D h688 a0 a1 a2 a3 a4)
  else
  (False))
  else
  (wL_p3952 (wL_p23 n) D h688 a0 a1 a2 a3 a4))
  else
  (False))
  else if (x2 &&& (63 : Int32)) = (2 : Int32) then
  (wB (eI h a0 (a4 + (1 : Int32))) fun x663 =>
  wB (eI h a0 (a4 + (2 : Int32))) fun x664 =>
  w2 (fX0_light D h a1 x663 x664 a3) fun x665 h666 =>
  wCall D h666 fun D h667 =>
  wB (eI h667 a0 (a4 + (1 : Int32))) fun x668 =>
  wB (eI h667 a0 (a4 + (2 : Int32))) fun x669 =>
  wB (aIs h667 1 a2) fun _ =>
  w2 (fX2_light D h667 a2 x668 x669) fun x671 h672 =>
  wB (aIs h672 1 a2) fun _ =>
  wB (fX2_thrown D h672 a2) fun x674 =>
  if x674 = x665 then
  (if x665 = 0 then
  (wB (eL h672 a3 (0 : Int32)) fun x676 =>
  if (lg_cmp x676 x671.toInt64) = 0 then
  (wL_p3952 (wL_p23 n) D h672 a0 a1 a2 a3 a4)
  else
  (False))
  else
  (wL_p3952 (wL_p23 n) D h672 a0 a1 a2 a3 a4))
  else
  (False))
  else if (x2 &&& (63 : Int32)) = (3 : Int32) then
  (wB (eI h a0 (a4 + (1 : Int32))) fun x649 =>
  wB (eI h a0 (a4 + (2 : Int32))) fun x650 =>
  w2 (fX0_seen D h a1 x649 x650 a3) fun x651 h652 =>
  wCall D h652 fun D h653 =>
  wB (eI h653 a0 (a4 + (1 : Int32))) fun x654 =>
  wB (eI h653 a0 (a4 + (2 : Int32))) fun x655 =>
  wB (aIs h653 1 a2) fun _ =>
  w2 (fX2_seen D h653 a2 x654 x655) fun x657 h658 =>
  wB (aIs h658 1 a2) fun _ =>
  wB (fX2_thrown D h658 a2) fun x660 =>
  if x660 = x651 then
  (if x651 = 0 then
  (wB (eL h658 a3 (0 : Int32)) fun x662 =>
  if (lg_cmp x662 x657.toInt64) = 0 then
  (wL_p3952 (wL_p23 n) D h658 a0 a1 a2 a3 a4)
  else
  (False))
  else
  (wL_p3952 (wL_p23 n) D h658 a0 a1 a2 a3 a4))
  else
  (False))
  else if (x2 &&& (63 : Int32)) = (4 : Int32) then
  (wB (eI h a0 (a4 + (1 : Int32))) fun x635 =>
  wB (eI h a0 (a4 + (2 : Int32))) fun x636 =>
  w2 (fX0_edges D h a1 x635 x636 a3) fun x637 h638 =>
  wCall D h638 fun D h639 =>
  wB (eI h639 a0 (a4 + (1 : Int32))) fun x640 =>
  wB (eI h639 a0 (a4 + (2 : Int32))) fun x641 =>
  wB (aIs h639 1 a2) fun _ =>
  w2 (fX2_edges D h639 a2 x640 x641) fun x643 h644 =>
  wB (aIs h644 1 a2) fun _ =>
  wB (fX2_thrown D h644 a2) fun x646 =>
  if x646 = x637 then
  (if x637 = 0 then
  (wB (eL h644 a3 (0 : Int32)) fun x648 =>
  if (lg_cmp x648 x643) = 0 then
  (wL_p3952 (wL_p23 n) D h644 a0 a1 a2 a3 a4)
  else
  (False))
  else
  (wL_p3952 (wL_p23 n) D h644 a0 a1 a2 a3 a4))
  else
  (False))
  else if (x2 &&& (63 : Int32)) = (5 : Int32) then
  (wB (eI h a0 (a4 + (1 : Int32))) fun x619 =>
  wB (eI h a0 (a4 + (2 : Int32))) fun x620 =>
  wB (eI h a0 (a4 + (3 : Int32))) fun x621 =>
  w2 (fX0_addStroke D h a1 x619 ((x620.toInt64 <<< ((32 : Int32).toInt64 &&& 63)) ||| (x621.toInt64 &&& (4294967295 : Int64))) a3) fun x622 h623 =>
  wCall D h623 fun D h624 =>
  wB (eI h624 a0 (a4 + (1 : Int32))) fun x625 =>
  wB (eI h624 a0 (a4 + (2 : Int32))) fun x626 =>
  wB (eI h624 a0 (a4 + (3 : Int32))) fun x627 =>
  wB (aIs h624 1 a2) fun _ =>
  w2 (fX2_addStroke D h624 a2 x625 ((x626.toInt64 <<< ((32 : Int32).toInt64 &&& 63)) ||| (x627.toInt64 &&& (4294967295 : Int64)))) fun x629 h630 =>
  wB (aIs h630 1 a2) fun _ =>
  wB (fX2_thrown D h630 a2) fun x632 =>
  if x632 = x622 then
  (if x622 = 0 then
  (wB (eL h630 a3 (0 : Int32)) fun x634 =>
  if (lg_cmp x634 x629.toInt64) = 0 then
  (wL_p3952 (wL_p23 n) D h630 a0 a1 a2 a3 a4)
  else
  (False))
  else
  (wL_p3952 (wL_p23 n) D h630 a0 a1 a2 a3 a4))
  else
  (False))
  else if (x2 &&& (63 : Int32)) = (6 : Int32) then
  (wB (eI h a0 (a4 + (1 : Int32))) fun x607 =>
  w2 (fX0_addFigure D h a1 x607 a3) fun x608 h609 =>
  wCall D h609 fun D h610 =>
  wB (eI h610 a0 (a4 + (1 : Int32))) fun x611 =>
  wB (aIs h610 1 a2) fun _ =>
  w2 (fX2_addFigure D h610 a2 x611) fun x613 h614 =>
  wB (aIs h614 1 a2) fun _ =>
  wB (fX2_thrown D h614 a2) fun x616 =>
  if x616 = x608 then
  (if x608 = 0 then
  (wB (eL h614 a3 (0 : Int32)) fun x618 =>
  if (lg_cmp x618 x613.toInt64) = 0 then
  (wL_p3952 (wL_p23 n) D h614 a0 a1 a2 a3 a4)
  else
  (False))
  else
  (wL_p3952 (wL_p23 n) D h614 a0 a1 a2 a3 a4))
  else
  (False))
  else if (x2 &&& (63 : Int32)) = (7 : Int32) then
  (wB (eI h a0 (a4 + (1 : Int32))) fun x604 =>
  wB (eI h a0 (a4 + (2 : Int32))) fun x605 =>
  wB (eI h a0 (a4 + (3 : Int32))) fun x606 =>
  if x606 = 0 then
  (wL_p798 (wL_p23 n) D h a0 a1 a2 a3 a4 a1 x604 x605 (0 : Int32))
  else
  (wL_p798 (wL_p23 n) D h a0 a1 a2 a3 a4 a1 x604 x605 (1 : Int32)))
  else if (x2 &&& (63 : Int32)) = (8 : Int32) then
  (wB (eI h a0 (a4 + (1 : Int32))) fun x592 =>
  w2 (fX0_cellsOf D h a1 x592 a3) fun x593 h594 =>
  wCall D h594 fun D h595 =>
  wB (eI h595 a0 (a4 + (1 : Int32))) fun x596 =>
  wB (aIs h595 1 a2) fun _ =>
  w2 (fX2_cellsOf D h595 a2 x596) fun x598 h599 =>
  wB (aIs h599 1 a2) fun _ =>
  wB (fX2_thrown D h599 a2) fun x601 =>
  if x601 = x593 then
  (if x593 = 0 then
  (wB (eL h599 a3 (0 : Int32)) fun x603 =>
  if (lg_cmp x603 x598) = 0 then
  (wL_p3952 (wL_p23 n) D h599 a0 a1 a2 a3 a4)
  else
  (False))
  else
  (wL_p3952 (wL_p23 n) D h599 a0 a1 a2 a3 a4))
  else
  (False))
  else if (x2 &&& (63 : Int32)) = (9 : Int32) then
  (wB (eI h a0 (a4 + (1 : Int32))) fun x580 =>
  w2 (fX0_foundShare D h a1 x580 a3) fun x581 h582 =>
  wCall D h582 fun D h583 =>
  wB (eI h583 a0 (a4 + (1 : Int32))) fun x584 =>
  wB (aIs h583 1 a2) fun _ =>
  w2 (fX2_foundShare D h583 a2 x584) fun x586 h587 =>
  wB (aIs h587 1 a2) fun _ =>
  wB (fX2_thrown D h587 a2) fun x589 =>
  if x589 = x581 then
  (if x581 = 0 then
  (wB (eL h587 a3 (0 : Int32)) fun x591 =>
  if (lg_cmp x591 x586.toInt64) = 0 then
  (wL_p3952 (wL_p23 n) D h587 a0 a1 a2 a3 a4)
  else
  (False))
  else
  (wL_p3952 (wL_p23 n) D h587 a0 a1 a2 a3 a4))
  else
  (False))
  else if (x2 &&& (63 : Int32)) = (10 : Int32) then
  (wB (eI h a0 (a4 + (1 : Int32))) fun x566 =>
  wB (eI h a0 (a4 + (2 : Int32))) fun x567 =>
  w2 (fX0_sharedCells D h a1 x566 x567 a3) fun x568 h569 =>
  wCall D h569 fun D h570 =>
  wB (eI h570 a0 (a4 + (1 : Int32))) fun x571 =>
  wB (eI h570 a0 (a4 + (2 : Int32))) fun x572 =>
  wB (aIs h570 1 a2) fun _ =>
  w2 (fX2_sharedCells D h570 a2 x571 x572) fun x574 h575 =>
  wB (aIs h575 1 a2) fun _ =>
  wB (fX2_thrown D h575 a2) fun x577 =>
  if x577 = x568 then
  (if x568 = 0 then
  (wB (eL h575 a3 (0 : Int32)) fun x579 =>
  if (lg_cmp x579 x574.toInt64) = 0 then
  (wL_p3952 (wL_p23 n) D h575 a0 a1 a2 a3 a4)
  else
  (False))
  else
  (wL_p3952 (wL_p23 n) D h575 a0 a1 a2 a3 a4))
  else
  (False))
  else if (x2 &&& (63 : Int32)) = (11 : Int32) then
  (wB (eI h a0 (a4 + (1 : Int32))) fun x550 =>
  wB (eI h a0 (a4 + (2 : Int32))) fun x551 =>
  wB (eI h a0 (a4 + (3 : Int32))) fun x552 =>
  w2 (fX0_harm D h a1 x550 ((x551.toInt64 <<< ((32 : Int32).toInt64 &&& 63)) ||| (x552.toInt64 &&& (4294967295 : Int64))) a3) fun x553 h554 =>
  wCall D h554 fun D h555 =>
  wB (eI h555 a0 (a4 + (1 : Int32))) fun x556 =>
  wB (eI h555 a0 (a4 + (2 : Int32))) fun x557 =>
  wB (eI h555 a0 (a4 + (3 : Int32))) fun x558 =>
  wB (aIs h555 1 a2) fun _ =>
  w2 (fX2_harm D h555 a2 x556 ((x557.toInt64 <<< ((32 : Int32).toInt64 &&& 63)) ||| (x558.toInt64 &&& (4294967295 : Int64)))) fun x560 h561 =>
  wB (aIs h561 1 a2) fun _ =>
  wB (fX2_thrown D h561 a2) fun x563 =>
  if x563 = x553 then
  (if x553 = 0 then
  (wB (eL h561 a3 (0 : Int32)) fun x565 =>
  if (lg_cmp x565 x560.toInt64) = 0 then
  (wL_p3952 (wL_p23 n) D h561 a0 a1 a2 a3 a4)
  else
  (False))
  else
  (wL_p3952 (wL_p23 n) D h561 a0 a1 a2 a3 a4))
  else
  (False))
  else if (x2 &&& (63 : Int32)) = (12 : Int32) then
  (wB (eI h a0 (a4 + (1 : Int32))) fun x538 =>
  w2 (fX0_cast D h a1 x538 a3) fun x539 h540 =>
  wCall D h540 fun D h541 =>
  wB (eI h541 a0 (a4 + (1 : Int32))) fun x542 =>
  wB (aIs h541 1 a2) fun _ =>
  w2 (fX2_cast D h541 a2 x542) fun x544 h545 =>
  wB (aIs h545 1 a2) fun _ =>
  wB (fX2_thrown D h545 a2) fun x547 =>
  if x547 = x539 then
  (if x539 = 0 then
  (wB (eL h545 a3 (0 : Int32)) fun x549 =>
  if (lg_cmp x549 x544.toInt64) = 0 then
  (wL_p3952 (wL_p23 n) D h545 a0 a1 a2 a3 a4)
  else
  (False))
  else
  (wL_p3952 (wL_p23 n) D h545 a0 a1 a2 a3 a4))
  else
  (False))
  else if (x2 &&& (63 : Int32)) = (13 : Int32) then
  (wB (eI h a0 (a4 + (1 : Int32))) fun x520 =>
  wB (eI h a0 (a4 + (2 : Int32))) fun x521 =>
  wB (eI h a0 (a4 + (3 : Int32))) fun x522 =>
  wB (eI h a0 (a4 + (4 : Int32))) fun x523 =>
  w2 (fX0_trace D h a1 x520 x521 ((x522.toInt64 <<< ((32 : Int32).toInt64 &&& 63)) ||| (x523.toInt64 &&& (4294967295 : Int64))) a3) fun x524 h525 =>
  wCall D h525 fun D h526 =>
  wB (eI h526 a0 (a4 + (1 : Int32))) fun x527 =>
  wB (eI h526 a0 (a4 + (2 : Int32))) fun x528 =>
  wB (eI h526 a0 (a4 + (3 : Int32))) fun x529 =>
  wB (eI h526 a0 (a4 + (4 : Int32))) fun x530 =>
  wB (aIs h526 1 a2) fun _ =>
  w2 (fX2_trace D h526 a2 x527 x528 ((x529.toInt64 <<< ((32 : Int32).toInt64 &&& 63)) ||| (x530.toInt64 &&& (4294967295 : Int64)))) fun x532 h533 =>
  wB (aIs h533 1 a2) fun _ =>
  wB (fX2_thrown D h533 a2) fun x535 =>
  if x535 = x524 then
  (if x524 = 0 then
  (wB (eL h533 a3 (0 : Int32)) fun x537 =>
  if (lg_cmp x537 x532.toInt64) = 0 then
  (wL_p3952 (wL_p23 n) D h533 a0 a1 a2 a3 a4)
  else
  (False))
  else
  (wL_p3952 (wL_p23 n) D h533 a0 a1 a2 a3 a4))
  else
  (False))
  else if (x2 &&& (63 : Int32)) = (14 : Int32) then
  (wB (eI h a0 (a4 + (1 : Int32))) fun x508 =>
  w2 (fX0_shiftOf D h a1 x508 a3) fun x509 h510 =>
  wCall D h510 fun D h511 =>
  wB (eI h511 a0 (a4 + (1 : Int32))) fun x512 =>
  wB (aIs h511 1 a2) fun _ =>
  w2 (fX2_shiftOf D h511 a2 x512) fun x514 h515 =>
  wB (aIs h515 1 a2) fun _ =>
  wB (fX2_thrown D h515 a2) fun x517 =>
  if x517 = x509 then
  (if x509 = 0 then
  (wB (eL h515 a3 (0 : Int32)) fun x519 =>
  if (lg_cmp x519 x514.toInt64) = 0 then
  (wL_p3952 (wL_p23 n) D h515 a0 a1 a2 a3 a4)
  else
  (False))
  else
  (wL_p3952 (wL_p23 n) D h515 a0 a1 a2 a3 a4))
  else
  (False))
  else if (x2 &&& (63 : Int32)) = (15 : Int32) then
  (wB (eI h a0 (a4 + (1 : Int32))) fun x496 =>
  w2 (fX0_scoreOf D h a1 x496 a3) fun x497 h498 =>
  wCall D h498 fun D h499 =>
  wB (eI h499 a0 (a4 + (1 : Int32))) fun x500 =>
  wB (aIs h499 1 a2) fun _ =>
  w2 (fX2_scoreOf D h499 a2 x500) fun x502 h503 =>
  wB (aIs h503 1 a2) fun _ =>
  wB (fX2_thrown D h503 a2) fun x505 =>
  if x505 = x497 then
  (if x497 = 0 then
  (wB (eL h503 a3 (0 : Int32)) fun x507 =>
  if (lg_cmp x507 x502.toInt64) = 0 then
  (wL_p3952 (wL_p23 n) D h503 a0 a1 a2 a3 a4)
  else
  (False))
  else
  (wL_p3952 (wL_p23 n) D h503 a0 a1 a2 a3 a4))
  else
  (False))
  else if (x2 &&& (63 : Int32)) = (16 : Int32) then
  (wB (eI h a0 (a4 + (1 : Int32))) fun x484 =>
  w2 (fX0_handScore D h a1 x484 a3) fun x485 h486 =>
  wCall D h486 fun D h487 =>
  wB (eI h487 a0 (a4 + (1 : Int32))) fun x488 =>
  wB (aIs h487 1 a2) fun _ =>
  w2 (fX2_handScore D h487 a2 x488) fun x490 h491 =>
  wB (aIs h491 1 a2) fun _ =>
  wB (fX2_thrown D h491 a2) fun x493 =>
  if x493 = x485 then
  (if x485 = 0 then
  (wB (eL h491 a3 (0 : Int32)) fun x495 =>
  if (lg_cmp x495 x490.toInt64) = 0 then
  (wL_p3952 (wL_p23 n) D h491 a0 a1 a2 a3 a4)
  else
  (False))
  else
  (wL_p3952 (wL_p23 n) D h491 a0 a1 a2 a3 a4))
  else
  (False))
  else if (x2 &&& (63 : Int32)) = (17 : Int32) then
  (wB (eI h a0 (a4 + (1 : Int32))) fun x472 =>
  w2 (fX0_consensus D h a1 x472 a3) fun x473 h474 =>
  wCall D h474 fun D h475 =>
  wB (eI h475 a0 (a4 + (1 : Int32))) fun x476 =>
  wB (aIs h475 1 a2) fun _ =>
  w2 (fX2_consensus D h475 a2 x476) fun x478 h479 =>
  wB (aIs h479 1 a2) fun _ =>
  wB (fX2_thrown D h479 a2) fun x481 =>
  if x481 = x473 then
  (if x473 = 0 then
  (wB (eL h479 a3 (0 : Int32)) fun x483 =>
  if (lg_cmp x483 x478) = 0 then
  (wL_p3952 (wL_p23 n) D h479 a0 a1 a2 a3 a4)
  else
  (False))
  else
  (wL_p3952 (wL_p23 n) D h479 a0 a1 a2 a3 a4))
  else
  (False))
  else if (x2 &&& (63 : Int32)) = (18 : Int32) then
  (wB (eI h a0 (a4 + (1 : Int32))) fun x458 =>
  wB (eI h a0 (a4 + (2 : Int32))) fun x459 =>
  w2 (fX0_mark D h a1 x458 x459 a3) fun x460 h461 =>
  wCall D h461 fun D h462 =>
  wB (eI h462 a0 (a4 + (1 : Int32))) fun x463 =>
  wB (eI h462 a0 (a4 + (2 : Int32))) fun x464 =>
  wB (aIs h462 1 a2) fun _ =>
  w2 (fX2_mark D h462 a2 x463 x464) fun x466 h467 =>
  wB (aIs h467 1 a2) fun _ =>
  wB (fX2_thrown D h467 a2) fun x469 =>
  if x469 = x460 then
  (if x460 = 0 then
  (wB (eL h467 a3 (0 : Int32)) fun x471 =>
  if (lg_cmp x471 x466.toInt64) = 0 then
  (wL_p3952 (wL_p23 n) D h467 a0 a1 a2 a3 a4)
  else
  (False))
  else
  (wL_p3952 (wL_p23 n) D h467 a0 a1 a2 a3 a4))
  else
  (False))
  else if (x2 &&& (63 : Int32)) = (19 : Int32) then
  (wB (eI h a0 (a4 + (1 : Int32))) fun x446 =>
  w2 (fX0_clearMarks D h a1 x446 a3) fun x447 h448 =>
  wCall D h448 fun D h449 =>
  wB (eI h449 a0 (a4 + (1 : Int32))) fun x450 =>
  wB (aIs h449 1 a2) fun _ =>
  w2 (fX2_clearMarks D h449 a2 x450) fun x452 h453 =>
  wB (aIs h453 1 a2) fun _ =>
  wB (fX2_thrown D h453 a2) fun x455 =>
  if x455 = x447 then
  (if x447 = 0 then
  (wB (eL h453 a3 (0 : Int32)) fun x457 =>
  if (lg_cmp x457 x452.toInt64) = 0 then
  (wL_p3952 (wL_p23 n) D h453 a0 a1 a2 a3 a4)
  else
  (False))
  else
  (wL_p3952 (wL_p23 n) D h453 a0 a1 a2 a3 a4))
  else
  (False))
  else if (x2 &&& (63 : Int32)) = (20 : Int32) then
  (wB (eI h a0 (a4 + (1 : Int32))) fun x434 =>
  w2 (fX0_doubtOf D h a1 x434 a3) fun x435 h436 =>
  wCall D h436 fun D h437 =>
  wB (eI h437 a0 (a4 + (1 : Int32))) fun x438 =>
  wB (aIs h437 1 a2) fun _ =>
  w2 (fX2_doubtOf D h437 a2 x438) fun x440 h441 =>
  wB (aIs h441 1 a2) fun _ =>
  wB (fX2_thrown D h441 a2) fun x443 =>
  if x443 = x435 then
  (if x435 = 0 then
  (wB (eL h441 a3 (0 : Int32)) fun x445 =>
  if (lg_cmp x445 x440.toInt64) = 0 then
  (wL_p3952 (wL_p23 n) D h441 a0 a1 a2 a3 a4)
  else
  (False))
  else
  (wL_p3952 (wL_p23 n) D h441 a0 a1 a2 a3 a4))
  else
  (False))
  else if (x2 &&& (63 : Int32)) = (21 : Int32) then
  (wB (eI h a0 (a4 + (1 : Int32))) fun x420 =>
  wB (eI h a0 (a4 + (2 : Int32))) fun x421 =>
  w2 (fX0_setWeapon D h a1 x420 x421 a3) fun x422 h423 =>
  wCall D h423 fun D h424 =>
  wB (eI h424 a0 (a4 + (1 : Int32))) fun x425 =>
  wB (eI h424 a0 (a4 + (2 : Int32))) fun x426 =>
  wB (aIs h424 1 a2) fun _ =>
  w2 (fX2_setWeapon D h424 a2 x425 x426) fun x428 h429 =>
  wB (aIs h429 1 a2) fun _ =>
  wB (fX2_thrown D h429 a2) fun x431 =>
  if x431 = x422 then
  (if x422 = 0 then
  (wB (eL h429 a3 (0 : Int32)) fun x433 =>
  if (lg_cmp x433 x428.toInt64) = 0 then
  (wL_p3952 (wL_p23 n) D h429 a0 a1 a2 a3 a4)
  else
  (False))
  else
  (wL_p3952 (wL_p23 n) D h429 a0 a1 a2 a3 a4))
  else
  (False))
  else if (x2 &&& (63 : Int32)) = (22 : Int32) then
  (wB (eI h a0 (a4 + (1 : Int32))) fun x406 =>
  wB (eI h a0 (a4 + (2 : Int32))) fun x407 =>
  w2 (fX0_setAnimal D h a1 x406 x407 a3) fun x408 h409 =>
  wCall D h409 fun D h410 =>
  wB (eI h410 a0 (a4 + (1 : Int32))) fun x411 =>
  wB (eI h410 a0 (a4 + (2 : Int32))) fun x412 =>
  wB (aIs h410 1 a2) fun _ =>
  w2 (fX2_setAnimal D h410 a2 x411 x412) fun x414 h415 =>
  wB (aIs h415 1 a2) fun _ =>
  wB (fX2_thrown D h415 a2) fun x417 =>
  if x417 = x408 then
  (if x408 = 0 then
  (wB (eL h415 a3 (0 : Int32)) fun x419 =>
  if (lg_cmp x419 x414.toInt64) = 0 then
  (wL_p3952 (wL_p23 n) D h415 a0 a1 a2 a3 a4)
  else
  (False))
  else
  (wL_p3952 (wL_p23 n) D h415 a0 a1 a2 a3 a4))
  else
  (False))
  else if (x2 &&& (63 : Int32)) = (23 : Int32) then
  (wB (eI h a0 (a4 + (1 : Int32))) fun x390 =>
  wB (eI h a0 (a4 + (2 : Int32))) fun x391 =>
  wB (eI h a0 (a4 + (3 : Int32))) fun x392 =>
  w2 (fX0_findOver D h a1 x390 x391 x392 a3) fun x393 h394 =>
  wCall D h394 fun D h395 =>
  wB (eI h395 a0 (a4 + (1 : Int32))) fun x396 =>
  wB (eI h395 a0 (a4 + (2 : Int32))) fun x397 =>
  wB (eI h395 a0 (a4 + (3 : Int32))) fun x398 =>
  wB (aIs h395 1 a2) fun _ =>
  w2 (fX2_findOver D h395 a2 x396 x397 x398) fun x400 h401 =>
  wB (aIs h401 1 a2) fun _ =>
  wB (fX2_thrown D h401 a2) fun x403 =>
  if x403 = x393 then
  (if x393 = 0 then
  (wB (eL h401 a3 (0 : Int32)) fun x405 =>
  if (lg_cmp x405 x400.toInt64) = 0 then
  (wL_p3952 (wL_p23 n) D h401 a0 a1 a2 a3 a4)
  else
  (False))
  else
  (wL_p3952 (wL_p23 n) D h401 a0 a1 a2 a3 a4))
  else
  (False))
  else if (x2 &&& (63 : Int32)) = (24 : Int32) then
  (wB (eI h a0 (a4 + (1 : Int32))) fun x372 =>
  wB (eI h a0 (a4 + (2 : Int32))) fun x373 =>
  wB (eI h a0 (a4 + (3 : Int32))) fun x374 =>
  wB (eI h a0 (a4 + (4 : Int32))) fun x375 =>
  w2 (fX0_findDate D h a1 x372 x373 x374 x375 a3) fun x376 h377 =>
  wCall D h377 fun D h378 =>
  wB (eI h378 a0 (a4 + (1 : Int32))) fun x379 =>
  wB (eI h378 a0 (a4 + (2 : Int32))) fun x380 =>
  wB (eI h378 a0 (a4 + (3 : Int32))) fun x381 =>
  wB (eI h378 a0 (a4 + (4 : Int32))) fun x382 =>
  wB (aIs h378 1 a2) fun _ =>
  w2 (fX2_findDate D h378 a2 x379 x380 x381 x382) fun x384 h385 =>
  wB (aIs h385 1 a2) fun _ =>
  wB (fX2_thrown D h385 a2) fun x387 =>
  if x387 = x376 then
  (if x376 = 0 then
  (wB (eL h385 a3 (0 : Int32)) fun x389 =>
  if (lg_cmp x389 x384.toInt64) = 0 then
  (wL_p3952 (wL_p23 n) D h385 a0 a1 a2 a3 a4)
  else
  (False))
  else
  (wL_p3952 (wL_p23 n) D h385 a0 a1 a2 a3 a4))
  else
  (False))
  else if (x2 &&& (63 : Int32)) = (25 : Int32) then
  (wB (eI h a0 (a4 + (1 : Int32))) fun x360 =>
  w2 (fX0_remove D h a1 x360 a3) fun x361 h362 =>
  wCall D h362 fun D h363 =>
  wB (eI h363 a0 (a4 + (1 : Int32))) fun x364 =>
  wB (aIs h363 1 a2) fun _ =>
  w2 (fX2_remove D h363 a2 x364) fun x366 h367 =>
  wB (aIs h367 1 a2) fun _ =>
  wB (fX2_thrown D h367 a2) fun x369 =>
  if x369 = x361 then
  (if x361 = 0 then
  (wB (eL h367 a3 (0 : Int32)) fun x371 =>
  if (lg_cmp x371 x366.toInt64) = 0 then
  (wL_p3952 (wL_p23 n) D h367 a0 a1 a2 a3 a4)
  else
  (False))
  else
  (wL_p3952 (wL_p23 n) D h367 a0 a1 a2 a3 a4))
  else
  (False))
  else if (x2 &&& (63 : Int32)) = (26 : Int32) then
  (wB (eI h a0 (a4 + (1 : Int32))) fun x348 =>
  w2 (fX0_standOf D h a1 x348 a3) fun x349 h350 =>
  wCall D h350 fun D h351 =>
  wB (eI h351 a0 (a4 + (1 : Int32))) fun x352 =>
  wB (aIs h351 1 a2) fun _ =>
  w2 (fX2_standOf D h351 a2 x352) fun x354 h355 =>
  wB (aIs h355 1 a2) fun _ =>
  wB (fX2_thrown D h355 a2) fun x357 =>
  if x357 = x349 then
  (if x349 = 0 then
  (wB (eL h355 a3 (0 : Int32)) fun x359 =>
  if (lg_cmp x359 x354.toInt64) = 0 then
  (wL_p3952 (wL_p23 n) D h355 a0 a1 a2 a3 a4)
  else
  (False))
  else
  (wL_p3952 (wL_p23 n) D h355 a0 a1 a2 a3 a4))
  else
  (False))
  else if (x2 &&& (63 : Int32)) = (27 : Int32) then
  (wB (eI h a0 (a4 + (1 : Int32))) fun x334 =>
  wB (eI h a0 (a4 + (2 : Int32))) fun x335 =>
  w2 (fX0_orderAt D h a1 x334 x335 a3) fun x336 h337 =>
  wCall D h337 fun D h338 =>
  wB (eI h338 a0 (a4 + (1 : Int32))) fun x339 =>
  wB (eI h338 a0 (a4 + (2 : Int32))) fun x340 =>
  wB (aIs h338 1 a2) fun _ =>
  w2 (fX2_orderAt D h338 a2 x339 x340) fun x342 h343 =>
  wB (aIs h343 1 a2) fun _ =>
  wB (fX2_thrown D h343 a2) fun x345 =>
  if x345 = x336 then
  (if x336 = 0 then
  (wB (eL h343 a3 (0 : Int32)) fun x347 =>
  if (lg_cmp x347 x342.toInt64) = 0 then
  (wL_p3952 (wL_p23 n) D h343 a0 a1 a2 a3 a4)
  else
  (False))
  else
  (wL_p3952 (wL_p23 n) D h343 a0 a1 a2 a3 a4))
  else
  (False))
  else if (x2 &&& (63 : Int32)) = (28 : Int32) then
  (wB (eI h a0 (a4 + (1 : Int32))) fun x322 =>
  w2 (fX0_brokenWeight D h a1 x322 a3) fun x323 h324 =>
  wCall D h324 fun D h325 =>
  wB (eI h325 a0 (a4 + (1 : Int32))) fun x326 =>
  wB (aIs h325 1 a2) fun _ =>
  w2 (fX2_brokenWeight D h325 a2 x326) fun x328 h329 =>
  wB (aIs h329 1 a2) fun _ =>
  wB (fX2_thrown D h329 a2) fun x331 =>
  if x331 = x323 then
  (if x323 = 0 then
  (wB (eL h329 a3 (0 : Int32)) fun x333 =>
  if (lg_cmp x333 x328.toInt64) = 0 then
  (wL_p3952 (wL_p23 n) D h329 a0 a1 a2 a3 a4)
  else
  (False))
  else
  (wL_p3952 (wL_p23 n) D h329 a0 a1 a2 a3 a4))
  else
  (False))
  else if (x2 &&& (63 : Int32)) = (29 : Int32) then
  (wB (eI h a0 (a4 + (1 : Int32))) fun x308 =>
  wB (eI h a0 (a4 + (2 : Int32))) fun x309 =>
  w2 (fX0_isAbove D h a1 x308 x309 a3) fun x310 h311 =>
  wCall D h311 fun D h312 =>
  wB (eI h312 a0 (a4 + (1 : Int32))) fun x313 =>
  wB (eI h312 a0 (a4 + (2 : Int32))) fun x314 =>
  wB (aIs h312 1 a2) fun _ =>
  w2 (fX2_isAbove D h312 a2 x313 x314) fun x316 h317 =>
  wB (aIs h317 1 a2) fun _ =>
  wB (fX2_thrown D h317 a2) fun x319 =>
  if x319 = x310 then
  (if x310 = 0 then
  (wB (eL h317 a3 (0 : Int32)) fun x321 =>
  if x316 = 0 then
  (wL_p2327 (wL_p23 n) D h317 a0 a1 a2 a3 a4 x321 (0 : Int64))
  else
  (wL_p2327 (wL_p23 n) D h317 a0 a1 a2 a3 a4 x321 (1 : Int64)))
  else
  (wL_p3952 (wL_p23 n) D h317 a0 a1 a2 a3 a4))
  else
  (False))
  else if (x2 &&& (63 : Int32)) = (30 : Int32) then
  (wB (eI h a0 (a4 + (1 : Int32))) fun x296 =>
  w2 (fX0_earliest D h a1 x296 a3) fun x297 h298 =>
  wCall D h298 fun D h299 =>
  wB (eI h299 a0 (a4 + (1 : Int32))) fun x300 =>
  wB (aIs h299 1 a2) fun _ =>
  w2 (fX2_earliest D h299 a2 x300) fun x302 h303 =>
  wB (aIs h303 1 a2) fun _ =>
  wB (fX2_thrown D h303 a2) fun x305 =>
  if x305 = x297 then
  (if x297 = 0 then
  (wB (eL h303 a3 (0 : Int32)) fun x307 =>
  if (lg_cmp x307 x302.toInt64) = 0 then
  (wL_p3952 (wL_p23 n) D h303 a0 a1 a2 a3 a4)
  else
  (False))
  else
  (wL_p3952 (wL_p23 n) D h303 a0 a1 a2 a3 a4))
  else
  (False))
  else if (x2 &&& (63 : Int32)) = (31 : Int32) then
  (wB (eI h a0 (a4 + (1 : Int32))) fun x284 =>
  w2 (fX0_latest D h a1 x284 a3) fun x285 h286 =>
  wCall D h286 fun D h287 =>
  wB (eI h287 a0 (a4 + (1 : Int32))) fun x288 =>
  wB (aIs h287 1 a2) fun _ =>
  w2 (fX2_latest D h287 a2 x288) fun x290 h291 =>
  wB (aIs h291 1 a2) fun _ =>
  wB (fX2_thrown D h291 a2) fun x293 =>
  if x293 = x285 then
  (if x285 = 0 then
  (wB (eL h291 a3 (0 : Int32)) fun x295 =>
  if (lg_cmp x295 x290.toInt64) = 0 then
  (wL_p3952 (wL_p23 n) D h291 a0 a1 a2 a3 a4)
  else
  (False))
  else
  (wL_p3952 (wL_p23 n) D h291 a0 a1 a2 a3 a4))
  else
  (False))
  else if (x2 &&& (63 : Int32)) = (32 : Int32) then
  (wB (eI h a0 (a4 + (1 : Int32))) fun x282 =>
  wB (eI h a0 (a4 + (2 : Int32))) fun x283 =>
  if x283 = 0 then
  (wL_p2469 (wL_p23 n) D h a0 a1 a2 a3 a4 a1 x282 (0 : Int32))
  else
  (wL_p2469 (wL_p23 n) D h a0 a1 a2 a3 a4 a1 x282 (1 : Int32)))
  else if (x2 &&& (63 : Int32)) = (33 : Int32) then
  (wB (eI h a0 (a4 + (1 : Int32))) fun x268 =>
  wB (eI h a0 (a4 + (2 : Int32))) fun x269 =>
  w2 (fX0_setFeatures D h a1 x268 x269 a3) fun x270 h271 =>
  wCall D h271 fun D h272 =>
  wB (eI h272 a0 (a4 + (1 : Int32))) fun x273 =>
  wB (eI h272 a0 (a4 + (2 : Int32))) fun x274 =>
  wB (aIs h272 1 a2) fun _ =>
  w2 (fX2_setFeatures D h272 a2 x273 x274) fun x276 h277 =>
  wB (aIs h277 1 a2) fun _ =>
  wB (fX2_thrown D h277 a2) fun x279 =>
  if x279 = x270 then
  (if x270 = 0 then
  (wB (eL h277 a3 (0 : Int32)) fun x281 =>
  if (lg_cmp x281 x276.toInt64) = 0 then
  (wL_p3952 (wL_p23 n) D h277 a0 a1 a2 a3 a4)
  else
  (False))
  else
  (wL_p3952 (wL_p23 n) D h277 a0 a1 a2 a3 a4))
  else
  (False))
  else if (x2 &&& (63 : Int32)) = (34 : Int32) then
  (wB (eI h a0 (a4 + (1 : Int32))) fun x256 =>
  w2 (fX0_addStyle D h a1 x256 a3) fun x257 h258 =>
  wCall D h258 fun D h259 =>
  wB (eI h259 a0 (a4 + (1 : Int32))) fun x260 =>
  wB (aIs h259 1 a2) fun _ =>
  w2 (fX2_addStyle D h259 a2 x260) fun x262 h263 =>
  wB (aIs h263 1 a2) fun _ =>
  wB (fX2_thrown D h263 a2) fun x265 =>
  if x265 = x257 then
  (if x257 = 0 then
  (wB (eL h263 a3 (0 : Int32)) fun x267 =>
  if (lg_cmp x267 x262.toInt64) = 0 then
  (wL_p3952 (wL_p23 n) D h263 a0 a1 a2 a3 a4)
  else
  (False))
  else
  (wL_p3952 (wL_p23 n) D h263 a0 a1 a2 a3 a4))
  else
  (False))
  else if (x2 &&& (63 : Int32)) = (35 : Int32) then
  (wB (eI h a0 (a4 + (1 : Int32))) fun x244 =>
  w2 (fX0_styleOf D h a1 x244 a3) fun x245 h246 =>
  wCall D h246 fun D h247 =>
  wB (eI h247 a0 (a4 + (1 : Int32))) fun x248 =>
  wB (aIs h247 1 a2) fun _ =>
  w2 (fX2_styleOf D h247 a2 x248) fun x250 h251 =>
  wB (aIs h251 1 a2) fun _ =>
  wB (fX2_thrown D h251 a2) fun x253 =>
  if x253 = x245 then
  (if x245 = 0 then
  (wB (eL h251 a3 (0 : Int32)) fun x255 =>
  if (lg_cmp x255 x250.toInt64) = 0 then
  (wL_p3952 (wL_p23 n) D h251 a0 a1 a2 a3 a4)
  else
  (False))
  else
  (wL_p3952 (wL_p23 n) D h251 a0 a1 a2 a3 a4))
  else
  (False))
  else if (x2 &&& (63 : Int32)) = (36 : Int32) then
  (wB (eI h a0 (a4 + (1 : Int32))) fun x230 =>
  wB (eI h a0 (a4 + (2 : Int32))) fun x231 =>
  w2 (fX0_addEntry D h a1 x230 x231 a3) fun x232 h233 =>
  wCall D h233 fun D h234 =>
  wB (eI h234 a0 (a4 + (1 : Int32))) fun x235 =>
  wB (eI h234 a0 (a4 + (2 : Int32))) fun x236 =>
  wB (aIs h234 1 a2) fun _ =>
  w2 (fX2_addEntry D h234 a2 x235 x236) fun x238 h239 =>
  wB (aIs h239 1 a2) fun _ =>
  wB (fX2_thrown D h239 a2) fun x241 =>
  if x241 = x232 then
  (if x232 = 0 then
  (wB (eL h239 a3 (0 : Int32)) fun x243 =>
  if (lg_cmp x243 x238.toInt64) = 0 then
  (wL_p3952 (wL_p23 n) D h239 a0 a1 a2 a3 a4)
  else
  (False))
  else
  (wL_p3952 (wL_p23 n) D h239 a0 a1 a2 a3 a4))
  else
  (False))
  else if (x2 &&& (63 : Int32)) = (37 : Int32) then
  (wB (eI h a0 (a4 + (1 : Int32))) fun x218 =>
  w2 (fX0_figureFor D h a1 x218 a3) fun x219 h220 =>
  wCall D h220 fun D h221 =>
  wB (eI h221 a0 (a4 + (1 : Int32))) fun x222 =>
  wB (aIs h221 1 a2) fun _ =>
  w2 (fX2_figureFor D h221 a2 x222) fun x224 h225 =>
  wB (aIs h225 1 a2) fun _ =>
  wB (fX2_thrown D h225 a2) fun x227 =>
  if x227 = x219 then
  (if x219 = 0 then
  (wB (eL h225 a3 (0 : Int32)) fun x229 =>
  if (lg_cmp x229 x224.toInt64) = 0 then
  (wL_p3952 (wL_p23 n) D h225 a0 a1 a2 a3 a4)
  else
  (False))
  else
  (wL_p3952 (wL_p23 n) D h225 a0 a1 a2 a3 a4))
  else
  (False))
  else if (x2 &&& (63 : Int32)) = (38 : Int32) then
  (wB (eI h a0 (a4 + (1 : Int32))) fun x200 =>
  wB (eI h a0 (a4 + (2 : Int32))) fun x201 =>
  wB (eI h a0 (a4 + (3 : Int32))) fun x202 =>
  wB (eI h a0 (a4 + (4 : Int32))) fun x203 =>
  w2 (fX0_tellName D h a1 x200 x201 x202 x203 a3) fun x204 h205 =>
  wCall D h205 fun D h206 =>
  wB (eI h206 a0 (a4 + (1 : Int32))) fun x207 =>
  wB (eI h206 a0 (a4 + (2 : Int32))) fun x208 =>
  wB (eI h206 a0 (a4 + (3 : Int32))) fun x209 =>
  wB (eI h206 a0 (a4 + (4 : Int32))) fun x210 =>
  wB (aIs h206 1 a2) fun _ =>
  w2 (fX2_tellName D h206 a2 x207 x208 x209 x210) fun x212 h213 =>
  wB (aIs h213 1 a2) fun _ =>
  wB (fX2_thrown D h213 a2) fun x215 =>
  if x215 = x204 then
  (if x204 = 0 then
  (wB (eL h213 a3 (0 : Int32)) fun x217 =>
  if (lg_cmp x217 x212.toInt64) = 0 then
  (wL_p3952 (wL_p23 n) D h213 a0 a1 a2 a3 a4)
  else
  (False))
  else
  (wL_p3952 (wL_p23 n) D h213 a0 a1 a2 a3 a4))
  else
  (False))
  else if (x2 &&& (63 : Int32)) = (39 : Int32) then
  (wB (eI h a0 (a4 + (1 : Int32))) fun x184 =>
  wB (eI h a0 (a4 + (2 : Int32))) fun x185 =>
  wB (eI h a0 (a4 + (3 : Int32))) fun x186 =>
  w2 (fX0_nameFor D h a1 x184 x185 x186 a3) fun x187 h188 =>
  wCall D h188 fun D h189 =>
  wB (eI h189 a0 (a4 + (1 : Int32))) fun x190 =>
  wB (eI h189 a0 (a4 + (2 : Int32))) fun x191 =>
  wB (eI h189 a0 (a4 + (3 : Int32))) fun x192 =>
  wB (aIs h189 1 a2) fun _ =>
  w2 (fX2_nameFor D h189 a2 x190 x191 x192) fun x194 h195 =>
  wB (aIs h195 1 a2) fun _ =>
  wB (fX2_thrown D h195 a2) fun x197 =>
  if x197 = x187 then
  (if x187 = 0 then
  (wB (eL h195 a3 (0 : Int32)) fun x199 =>
  if (lg_cmp x199 x194.toInt64) = 0 then
  (wL_p3952 (wL_p23 n) D h195 a0 a1 a2 a3 a4)
  else
  (False))
  else
  (wL_p3952 (wL_p23 n) D h195 a0 a1 a2 a3 a4))
  else
  (False))
  else if (x2 &&& (63 : Int32)) = (40 : Int32) then
  (wB (eI h a0 (a4 + (1 : Int32))) fun x181 =>
  wB (eI h a0 (a4 + (2 : Int32))) fun x182 =>
  wB (eI h a0 (a4 + (3 : Int32))) fun x183 =>
  if x183 = 0 then
  (wL_p3035 (wL_p23 n) D h a0 a1 a2 a3 a4 a1 x181 x182 (0 : Int32))
  else
  (wL_p3035 (wL_p23 n) D h a0 a1 a2 a3 a4 a1 x181 x182 (1 : Int32)))
  else if (x2 &&& (63 : Int32)) = (41 : Int32) then
  (wB (eI h a0 (a4 + (1 : Int32))) fun x167 =>
  wB (eI h a0 (a4 + (2 : Int32))) fun x168 =>
  w2 (fX0_repaint D h a1 x167 x168 a3) fun x169 h170 =>
  wCall D h170 fun D h171 =>
  wB (eI h171 a0 (a4 + (1 : Int32))) fun x172 =>
  wB (eI h171 a0 (a4 + (2 : Int32))) fun x173 =>
  wB (aIs h171 1 a2) fun _ =>
  w2 (fX2_repaint D h171 a2 x172 x173) fun x175 h176 =>
  wB (aIs h176 1 a2) fun _ =>
  wB (fX2_thrown D h176 a2) fun x178 =>
  if x178 = x169 then
  (if x169 = 0 then
  (wB (eL h176 a3 (0 : Int32)) fun x180 =>
  if (lg_cmp x180 x175.toInt64) = 0 then
  (wL_p3952 (wL_p23 n) D h176 a0 a1 a2 a3 a4)
  else
  (False))
  else
  (wL_p3952 (wL_p23 n) D h176 a0 a1 a2 a3 a4))
  else
  (False))
  else if (x2 &&& (63 : Int32)) = (42 : Int32) then
  (wB (eI h a0 (a4 + (1 : Int32))) fun x155 =>
  w2 (fX0_passYears D h a1 x155 a3) fun x156 h157 =>
  wCall D h157 fun D h158 =>
  wB (eI h158 a0 (a4 + (1 : Int32))) fun x159 =>
  wB (aIs h158 1 a2) fun _ =>
  w2 (fX2_passYears D h158 a2 x159) fun x161 h162 =>
  wB (aIs h162 1 a2) fun _ =>
  wB (fX2_thrown D h162 a2) fun x164 =>
  if x164 = x156 then
  (if x156 = 0 then
  (wB (eL h162 a3 (0 : Int32)) fun x166 =>
  if (lg_cmp x166 x161.toInt64) = 0 then
  (wL_p3952 (wL_p23 n) D h162 a0 a1 a2 a3 a4)
  else
  (False))
  else
  (wL_p3952 (wL_p23 n) D h162 a0 a1 a2 a3 a4))
  else
  (False))
  else if (x2 &&& (63 : Int32)) = (43 : Int32) then
  (wB (eI h a0 (a4 + (1 : Int32))) fun x137 =>
  wB (eI h a0 (a4 + (2 : Int32))) fun x138 =>
  wB (eI h a0 (a4 + (3 : Int32))) fun x139 =>
  wB (eI h a0 (a4 + (4 : Int32))) fun x140 =>
  w2 (fX0_setDecay D h a1 x137 x138 x139 x140 a3) fun x141 h142 =>
  wCall D h142 fun D h143 =>
  wB (eI h143 a0 (a4 + (1 : Int32))) fun x144 =>
  wB (eI h143 a0 (a4 + (2 : Int32))) fun x145 =>
  wB (eI h143 a0 (a4 + (3 : Int32))) fun x146 =>
  wB (eI h143 a0 (a4 + (4 : Int32))) fun x147 =>
  wB (aIs h143 1 a2) fun _ =>
  w2 (fX2_setDecay D h143 a2 x144 x145 x146 x147) fun x149 h150 =>
  wB (aIs h150 1 a2) fun _ =>
  wB (fX2_thrown D h150 a2) fun x152 =>
  if x152 = x141 then
  (if x141 = 0 then
  (wB (eL h150 a3 (0 : Int32)) fun x154 =>
  if (lg_cmp x154 x149.toInt64) = 0 then
  (wL_p3952 (wL_p23 n) D h150 a0 a1 a2 a3 a4)
  else
  (False))
  else
  (wL_p3952 (wL_p23 n) D h150 a0 a1 a2 a3 a4))
  else
  (False))
  else if (x2 &&& (63 : Int32)) = (44 : Int32) then
  (wB (eI h a0 (a4 + (1 : Int32))) fun x125 =>
  w2 (fX0_healthOf D h a1 x125 a3) fun x126 h127 =>
  wCall D h127 fun D h128 =>
  wB (eI h128 a0 (a4 + (1 : Int32))) fun x129 =>
  wB (aIs h128 1 a2) fun _ =>
  w2 (fX2_healthOf D h128 a2 x129) fun x131 h132 =>
  wB (aIs h132 1 a2) fun _ =>
  wB (fX2_thrown D h132 a2) fun x134 =>
  if x134 = x126 then
  (if x126 = 0 then
  (wB (eL h132 a3 (0 : Int32)) fun x136 =>
  if (lg_cmp x136 x131.toInt64) = 0 then
  (wL_p3952 (wL_p23 n) D h132 a0 a1 a2 a3 a4)
  else
  (False))
  else
  (wL_p3952 (wL_p23 n) D h132 a0 a1 a2 a3 a4))
  else
  (False))
  else if (x2 &&& (63 : Int32)) = (45 : Int32) then
  (wB (eI h a0 (a4 + (1 : Int32))) fun x109 =>
  wB (eI h a0 (a4 + (2 : Int32))) fun x110 =>
  wB (eI h a0 (a4 + (3 : Int32))) fun x111 =>
  w2 (fX0_addWork D h a1 x109 x110 x111 a3) fun x112 h113 =>
  wCall D h113 fun D h114 =>
  wB (eI h114 a0 (a4 + (1 : Int32))) fun x115 =>
  wB (eI h114 a0 (a4 + (2 : Int32))) fun x116 =>
  wB (eI h114 a0 (a4 + (3 : Int32))) fun x117 =>
  wB (aIs h114 1 a2) fun _ =>
  w2 (fX2_addWork D h114 a2 x115 x116 x117) fun x119 h120 =>
  wB (aIs h120 1 a2) fun _ =>
  wB (fX2_thrown D h120 a2) fun x122 =>
  if x122 = x112 then
  (if x112 = 0 then
  (wB (eL h120 a3 (0 : Int32)) fun x124 =>
  if (lg_cmp x124 x119.toInt64) = 0 then
  (wL_p3952 (wL_p23 n) D h120 a0 a1 a2 a3 a4)
  else
  (False))
  else
  (wL_p3952 (wL_p23 n) D h120 a0 a1 a2 a3 a4))
  else
  (False))
  else if (x2 &&& (63 : Int32)) = (46 : Int32) then
  (wB (eI h a0 (a4 + (1 : Int32))) fun x97 =>
  w2 (fX0_worksFor D h a1 x97 a3) fun x98 h99 =>
  wCall D h99 fun D h100 =>
  wB (eI h100 a0 (a4 + (1 : Int32))) fun x101 =>
  wB (aIs h100 1 a2) fun _ =>
  w2 (fX2_worksFor D h100 a2 x101) fun x103 h104 =>
  wB (aIs h104 1 a2) fun _ =>
  wB (fX2_thrown D h104 a2) fun x106 =>
  if x106 = x98 then
  (if x98 = 0 then
  (wB (eL h104 a3 (0 : Int32)) fun x108 =>
  if (lg_cmp x108 x103.toInt64) = 0 then
  (wL_p3952 (wL_p23 n) D h104 a0 a1 a2 a3 a4)
  else
  (False))
  else
  (wL_p3952 (wL_p23 n) D h104 a0 a1 a2 a3 a4))
  else
  (False))
  else if (x2 &&& (63 : Int32)) = (47 : Int32) then
  (wB (eI h a0 (a4 + (1 : Int32))) fun x85 =>
  w2 (fX0_doWorks D h a1 x85 a3) fun x86 h87 =>
  wCall D h87 fun D h88 =>
  wB (eI h88 a0 (a4 + (1 : Int32))) fun x89 =>
  wB (aIs h88 1 a2) fun _ =>
  w2 (fX2_doWorks D h88 a2 x89) fun x91 h92 =>
  wB (aIs h92 1 a2) fun _ =>
  wB (fX2_thrown D h92 a2) fun x94 =>
  if x94 = x86 then
  (if x86 = 0 then
  (wB (eL h92 a3 (0 : Int32)) fun x96 =>
  if (lg_cmp x96 x91.toInt64) = 0 then
  (wL_p3952 (wL_p23 n) D h92 a0 a1 a2 a3 a4)
  else
  (False))
  else
  (wL_p3952 (wL_p23 n) D h92 a0 a1 a2 a3 a4))
  else
  (False))
  else if (x2 &&& (63 : Int32)) = (48 : Int32) then
  (wB (eI h a0 (a4 + (1 : Int32))) fun x71 =>
  wB (eI h a0 (a4 + (2 : Int32))) fun x72 =>
  w2 (fX0_setLoad D h a1 x71 x72 a3) fun x73 h74 =>
  wCall D h74 fun D h75 =>
  wB (eI h75 a0 (a4 + (1 : Int32))) fun x76 =>
  wB (eI h75 a0 (a4 + (2 : Int32))) fun x77 =>
  wB (aIs h75 1 a2) fun _ =>
  w2 (fX2_setLoad D h75 a2 x76 x77) fun x79 h80 =>
  wB (aIs h80 1 a2) fun _ =>
  wB (fX2_thrown D h80 a2) fun x82 =>
  if x82 = x73 then
  (if x73 = 0 then
  (wB (eL h80 a3 (0 : Int32)) fun x84 =>
  if (lg_cmp x84 x79.toInt64) = 0 then
  (wL_p3952 (wL_p23 n) D h80 a0 a1 a2 a3 a4)
  else
  (False))
  else
  (wL_p3952 (wL_p23 n) D h80 a0 a1 a2 a3 a4))
  else
  (False))
  else if (x2 &&& (63 : Int32)) = (49 : Int32) then
  (wB (eI h a0 (a4 + (1 : Int32))) fun x57 =>
  wB (eI h a0 (a4 + (2 : Int32))) fun x58 =>
  w2 (fX0_tour D h a1 x57 x58 a3) fun x59 h60 =>
  wCall D h60 fun D h61 =>
  wB (eI h61 a0 (a4 + (1 : Int32))) fun x62 =>
  wB (eI h61 a0 (a4 + (2 : Int32))) fun x63 =>
  wB (aIs h61 1 a2) fun _ =>
  w2 (fX2_tour D h61 a2 x62 x63) fun x65 h66 =>
  wB (aIs h66 1 a2) fun _ =>
  wB (fX2_thrown D h66 a2) fun x68 =>
  if x68 = x59 then
  (if x59 = 0 then
  (wB (eL h66 a3 (0 : Int32)) fun x70 =>
  if (lg_cmp x70 x65.toInt64) = 0 then
  (wL_p3952 (wL_p23 n) D h66 a0 a1 a2 a3 a4)
  else
  (False))
  else
  (wL_p3952 (wL_p23 n) D h66 a0 a1 a2 a3 a4))
  else
  (False))
  else if (x2 &&& (63 : Int32)) = (50 : Int32) then
  (wB (eI h a0 (a4 + (1 : Int32))) fun x43 =>
  wB (eI h a0 (a4 + (2 : Int32))) fun x44 =>
  w2 (fX0_tellDam D h a1 x43 x44 a3) fun x45 h46 =>
  wCall D h46 fun D h47 =>
  wB (eI h47 a0 (a4 + (1 : Int32))) fun x48 =>
  wB (eI h47 a0 (a4 + (2 : Int32))) fun x49 =>
  wB (aIs h47 1 a2) fun _ =>
  w2 (fX2_tellDam D h47 a2 x48 x49) fun x51 h52 =>
  wB (aIs h52 1 a2) fun _ =>
  wB (fX2_thrown D h52 a2) fun x54 =>
  if x54 = x45 then
  (if x45 = 0 then
  (wB (eL h52 a3 (0 : Int32)) fun x56 =>
  if (lg_cmp x56 x51.toInt64) = 0 then
  (wL_p3952 (wL_p23 n) D h52 a0 a1 a2 a3 a4)
  else
  (False))
  else
  (wL_p3952 (wL_p23 n) D h52 a0 a1 a2 a3 a4))
  else
  (False))
  else if (x2 &&& (63 : Int32)) = (51 : Int32) then
  (wB (eI h a0 (a4 + (1 : Int32))) fun x31 =>
  w2 (fX0_isDrowned D h a1 x31 a3) fun x32 h33 =>
  wCall D h33 fun D h34 =>
  wB (eI h34 a0 (a4 + (1 : Int32))) fun x35 =>
  wB (aIs h34 1 a2) fun _ =>
  w2 (fX2_isDrowned D h34 a2 x35) fun x37 h38 =>
  wB (aIs h38 1 a2) fun _ =>
  wB (fX2_thrown D h38 a2) fun x40 =>
  if x40 = x32 then
  (if x32 = 0 then
  (wB (eL h38 a3 (0 : Int32)) fun x42 =>
  if x37 = 0 then
  (wL_p3833 (wL_p23 n) D h38 a0 a1 a2 a3 a4 x42 (0 : Int64))
  else
  (wL_p3833 (wL_p23 n) D h38 a0 a1 a2 a3 a4 x42 (1 : Int64)))
  else
  (wL_p3952 (wL_p23 n) D h38 a0 a1 a2 a3 a4))
  else
  (False))
  else if (x2 &&& (63 : Int32)) = (52 : Int32) then
  (wB (aIs h 0 a1) fun _ =>
  w2 (fX1_recordFirst D h a1) fun x26 h27 =>
  wB (aIs h27 1 a2) fun _ =>
  w2 (fX2_recordFirst D h27 a2) fun x29 h30 =>
  if x26 = x29 then
  (wL_p3952 (wL_p23 n) D h30 a0 a1 a2 a3 a4)
  else
  (False))
  else if (x2 &&& (63 : Int32)) = (53 : Int32) then
  (wB (aIs h 0 a1) fun _ =>
  w2 (fX1_errors D h a1) fun x20 h21 =>
  wB (aIs h21 1 a2) fun _ =>
  w2 (fX2_errors D h21 a2) fun x23 h24 =>
  if x20 = x23 then
  (wL_p3952 (wL_p23 n) D h24 a0 a1 a2 a3 a4)
  else
  (False))
  else if (x2 &&& (63 : Int32)) = (54 : Int32) then
  (wB (aIs h 0 a1) fun _ =>
  w2 (fX1_meanSpan D h a1) fun x14 h15 =>
  wB (aIs h15 1 a2) fun _ =>
  w2 (fX2_meanSpan D h15 a2) fun x17 h18 =>
  if (Op.cmpValue (FP.dcmp x14 x17) .l) = 0 then
  (wL_p3952 (wL_p23 n) D h18 a0 a1 a2 a3 a4)
  else
  (if (Op.cmpValue (FP.dcmp x14 x14) .l) = 0 then
  (False)
  else
  (if (Op.cmpValue (FP.dcmp x17 x17) .l) = 0 then
  (False)
  else
  (wL_p3952 (wL_p23 n) D h18 a0 a1 a2 a3 a4))))
  else if (x2 &&& (63 : Int32)) = (55 : Int32) then
  (wB (aIs h 0 a1) fun _ =>
  w2 (fX1_heldShare D h a1) fun x4 h5 =>
  wB (ck64 (FP.f2d x4)) fun _ =>
  wB (some ((FP.f2d x4))) fun x7 =>
  wB (aIs h5 1 a2) fun _ =>
  w2 (fX2_heldShare D h5 a2) fun x9 h10 =>
  wB (ck64 (FP.f2d x9)) fun _ =>
  wB (some ((FP.f2d x9))) fun x12 =>
  if (Op.cmpValue (FP.dcmp x7 x12) .l) = 0 then
  (wL_p3952 (wL_p23 n) D h10 a0 a1 a2 a3 a4)
  else
  (if (Op.cmpValue (FP.dcmp x7 x7) .l) = 0 then
  (False)
  else
  (if (Op.cmpValue (FP.dcmp x12 x12) .l) = 0 then
  (False)
  else
  (wL_p3952 (wL_p23 n) D h10 a0 a1 a2 a3 a4))))
  else False)
theorem vL_p23 : ∀ (n : Nat) (D : aD) (n0 : Nat) (L : lX p l s m meth c D n0 s0 27 3484) (h : aH) (a0 : Option Nat) (a1 : Option Nat) (a2 : Option Nat) (a3 : Option Nat) (a4 : Int32), wL_p23 n D h a0 a1 a2 a3 a4 → V p l e room_1 s m #[Value.ref b] below meth c D n0 s0 (lw_Z below #[Value.ref b] s) h 23 [(0, false, va_rf a0), (1, false, va_rf a1), (2, false, va_rf a2), (3, false, va_rf a3), (4, false, .int a4)] [] := by
  intro n
  induction n with
  | zero =>
    intro _ _ _ _ _ _ _ _ _ hf
    rw [wL_p23] at hf
    exact hf.elim
  | succ n ih =>
    intro D n0 L h a0 a1 a2 a3 a4 hf
    have C := L.1
    rw [wL_p23] at hf
    refine v_iload (pc := 23) (j := 4) C dL_law_23 rfl ?_
    refine v_aload_n (pc := 25) (j := 0) C dL_law_25 rfl rfl ?_
    obtain ⟨x1, ex1, hf⟩ := hf
    refine v_alen (pc := 26) C ex1 dL_law_26 ?_
    refine v_iconst (pc := 27) (v := (5 : Int32)) C dL_law_27 rfl ?_
    refine v_isub (pc := 28) C dL_law_28 ?_
    refine v_icmp_gt (pc := 29) (tgt := 3958) C dL_law_29 rfl (fun hc => ?_) (fun hc => ?_)
    · rw [if_pos hc] at hf
      refine v_iconst (pc := 3958) (v := (1 : Int32)) C dL_law_3958 rfl ?_
      exact v_lret (pc := 3959) L dL_law_3959
    · rw [if_neg hc] at hf
      refine v_aload_n (pc := 32) (j := 0) C dL_law_32 rfl rfl ?_
      refine v_iload (pc := 33) (j := 4) C dL_law_33 rfl ?_
      obtain ⟨x2, ex2, hf⟩ := hf
      refine v_iaload (pc := 35) C ex2 dL_law_35 ?_
      refine v_bipush (pc := 36) (v := (63 : Int32)) C dL_law_36 rfl ?_
      refine v_iand (pc := 38) C dL_law_38 ?_
      by_cases hd : (x2 &&& (63 : Int32)) < 0 ∨ 55 < (x2 &&& (63 : Int32))
      · rw [if_pos hd] at hf
        refine v_tableOut (pc := 39) (tgt := 3952) C dL_law_39 (lw_out hd) rfl ?_
        exact V.sub [0, 1, 2, 3, 4] rfl (vL_p3952 L ih hf)
      rw [if_neg hd] at hf
      by_cases j0 : (x2 &&& (63 : Int32)) = (0 : Int32)
      · rw [if_pos j0] at hf
        rw [j0]
        refine v_tableIn (pc := 39) (off := 237) (tgt := 276) C dL_law_39 (by decide) (by decide) rfl rfl ?_
        refine v_aload_n (pc := 276) (j := 1) C dL_law_276 rfl rfl ?_
        refine v_aload_n (pc := 277) (j := 0) C dL_law_277 rfl rfl ?_
        refine v_iload (pc := 278) (j := 4) C dL_law_278 rfl ?_
        refine v_iconst (pc := 280) (v := (1 : Int32)) C dL_law_280 rfl ?_
        refine v_iadd (pc := 281) C dL_law_281 ?_
        obtain ⟨x693, ex693, hf⟩ := hf
        refine v_iaload (pc := 282) C ex693 dL_law_282 ?_
        refine v_aload_n (pc := 283) (j := 3) C dL_law_283 rfl rfl ?_
        obtain ⟨x694, h695, ex694, ox694, hf⟩ := hf
        refine v_wcall (pc := 284) (As := [va_rf a1, .int x693, va_rf a3]) (rest := []) C L.2.2.2.2.2.1 q1569 q1570 q1571 q73 ⟨by decide +kernel, by decide +kernel⟩ (n9 := 3) (by decide +kernel) rfl (by decide) (by decide) (Nat.le_trans aw_0 (by decide)) rfl (mX0_addPanel C.st ex694) dL_law_284 ox694.1 (by have := L.2.1; have := ox694.2.1; omega) fun D1 h696 hs => ?_
        have L := L.step (by have := L.2.1; have := ox694.2.1; omega) hs (by have := L.2.1; have := ox694.2.2; have := L.2.2.2.2.2.2; omega)
        have hf := hf D1 h696 hs
        have C := L.1
        refine v_istore (pc := 287) (lv' := [(5, false, .int x694), (0, false, va_rf a0), (1, false, va_rf a1), (2, false, va_rf a2), (3, false, va_rf a3), (4, false, .int a4)]) C dL_law_287 (by decide) rfl ?_
        refine v_aload_n (pc := 289) (j := 3) C dL_law_289 rfl rfl ?_
        refine v_aload_n (pc := 290) (j := 1) C dL_law_290 rfl rfl ?_
        refine v_iload (pc := 291) (j := 5) C dL_law_291 rfl ?_
        refine v_iconst (pc := 293) (v := (1 : Int32)) C dL_law_293 rfl ?_
        refine v_iadd (pc := 294) C dL_law_294 ?_
        obtain ⟨x697, ex697, hf⟩ := hf
        refine v_iaload (pc := 295) C ex697 dL_law_295 ?_
        obtain ⟨b698, eb698, hf⟩ := hf
        obtain ⟨rb698, _, kb698⟩ := aIs_eq eb698
        obtain ⟨x699, h700, ex699, hf⟩ := hf
        refine v_call (pc := 296) (d_V (pc := 296) C (As := [.int x697]) (rest := []) rb698 kb698 nt_1 q2491 yi_X2_addPanel_FigureSurveyModel yk_X2_addPanel rfl (by decide) (by decide) (Nat.le_trans aw_0 (by decide)) rfl (mX2_addPanel C.st ex699) dL_law_296) ?_
        refine v_istore (pc := 299) (lv' := [(6, false, .int x699), (5, false, .int x694), (0, false, va_rf a0), (1, false, va_rf a1), (2, false, va_rf a2), (3, false, va_rf a3), (4, false, .int a4)]) C dL_law_299 (by decide) rfl ?_
        refine v_aload_n (pc := 301) (j := 4) C dL_law_301 rfl rfl ?_
        obtain ⟨b701, eb701, hf⟩ := hf
        obtain ⟨rb701, _, kb701⟩ := aIs_eq eb701
        obtain ⟨x702, ex702, hf⟩ := hf
        refine v_call (pc := 302) (d_V (pc := 302) C (As := []) (rest := []) rb701 kb701 nt_1 q2487 yi_X2_thrown_FigureSurveyModel yk_X2_thrown rfl (by decide) (by decide) (Nat.le_trans aw_0 (by decide)) rfl (mX2_thrown C.st ex702) dL_law_302) ?_
        refine v_iload (pc := 305) (j := 1) C dL_law_305 rfl ?_
        refine v_icmp_eq (pc := 307) (tgt := 312) C dL_law_307 rfl (fun hc => ?_) (fun hc => ?_)
        · rw [if_pos hc] at hf
          refine v_iload (pc := 312) (j := 1) C dL_law_312 rfl ?_
          refine v_if_ne (pc := 314) (tgt := 329) C dL_law_314 rfl (fun hc => ?_) (fun hc => ?_)
          · rw [if_neg hc] at hf
            refine v_goto (pc := 329) (tgt := 3952) C dL_law_329 rfl ?_
            exact V.sub [2, 3, 4, 5, 6] rfl (vL_p3952 L ih hf)
          · rw [if_pos (Decidable.of_not_not hc)] at hf
            refine v_aload_n (pc := 317) (j := 5) C dL_law_317 rfl rfl ?_
            refine v_iconst (pc := 318) (v := (0 : Int32)) C dL_law_318 rfl ?_
            obtain ⟨x704, ex704, hf⟩ := hf
            refine v_laload (pc := 319) C ex704 dL_law_319 ?_
            refine v_iload (pc := 320) (j := 0) C dL_law_320 rfl ?_
            refine v_i2l (pc := 322) C dL_law_322 ?_
            refine v_lcmp (pc := 323) C dL_law_323 ?_
            refine v_if_eq (pc := 324) (tgt := 329) C dL_law_324 rfl (fun hc => ?_) (fun hc => ?_)
            · rw [if_pos hc] at hf
              refine v_goto (pc := 329) (tgt := 3952) C dL_law_329 rfl ?_
              exact V.sub [2, 3, 4, 5, 6] rfl (vL_p3952 L ih hf)
            · rw [if_neg hc] at hf
              refine v_iconst (pc := 327) (v := (0 : Int32)) C dL_law_327 rfl ?_
              exact hf.elim
        · rw [if_neg hc] at hf
          refine v_iconst (pc := 310) (v := (0 : Int32)) C dL_law_310 rfl ?_
          exact hf.elim
      rw [if_neg j0] at hf
      by_cases j1 : (x2 &&& (63 : Int32)) = (1 : Int32)
      · rw [if_pos j1] at hf
        rw [j1]
        refine v_tableIn (pc := 39) (off := 293) (tgt := 332) C dL_law_39 (by decide) (by decide) rfl rfl ?_
        refine v_aload_n (pc := 332) (j := 1) C dL_law_332 rfl rfl ?_
        refine v_aload_n (pc := 333) (j := 0) C dL_law_333 rfl rfl ?_
        refine v_iload (pc := 334) (j := 4) C dL_law_334 rfl ?_
        refine v_iconst (pc := 336) (v := (1 : Int32)) C dL_law_336 rfl ?_
        refine v_iadd (pc := 337) C dL_law_337 ?_
        obtain ⟨x677, ex677, hf⟩ := hf
        refine v_iaload (pc := 338) C ex677 dL_law_338 ?_
        refine v_aload_n (pc := 339) (j := 0) C dL_law_339 rfl rfl ?_
        refine v_iload (pc := 340) (j := 4) C dL_law_340 rfl ?_
        refine v_iconst (pc := 342) (v := (2 : Int32)) C dL_law_342 rfl ?_
        refine v_iadd (pc := 343) C dL_law_343 ?_
        obtain ⟨x678, ex678, hf⟩ := hf
        refine v_iaload (pc := 344) C ex678 dL_law_344 ?_
        refine v_aload_n (pc := 345) (j := 0) C dL_law_345 rfl rfl ?_
        refine v_iload (pc := 346) (j := 4) C dL_law_346 rfl ?_
        refine v_iconst (pc := 348) (v := (3 : Int32)) C dL_law_348 rfl ?_
        refine v_iadd (pc := 349) C dL_law_349 ?_
        obtain ⟨x679, ex679, hf⟩ := hf
        refine v_iaload (pc := 350) C ex679 dL_law_350 ?_
        refine v_aload_n (pc := 351) (j := 3) C dL_law_351 rfl rfl ?_
        obtain ⟨x680, h681, ex680, ox680, hf⟩ := hf
        refine v_wcall (pc := 352) (As := [va_rf a1, .int x677, .int x678, .int x679, va_rf a3]) (rest := []) C L.2.2.2.2.2.1 q1674 q1675 q1676 q73 ⟨by decide +kernel, by decide +kernel⟩ (n9 := 5) (by decide +kernel) rfl (by decide) (by decide) (Nat.le_trans aw_0 (by decide)) rfl (mX0_setDepth C.st ex680) dL_law_352 ox680.1 (by have := L.2.1; have := ox680.2.1; omega) fun D1 h682 hs => ?_
        have L := L.step (by have := L.2.1; have := ox680.2.1; omega) hs (by have := L.2.1; have := ox680.2.2; have := L.2.2.2.2.2.2; omega)
        have hf := hf D1 h682 hs
        have C := L.1
        refine v_istore (pc := 355) (lv' := [(5, false, .int x680), (0, false, va_rf a0), (1, false, va_rf a1), (2, false, va_rf a2), (3, false, va_rf a3), (4, false, .int a4)]) C dL_law_355 (by decide) rfl ?_
        refine v_aload_n (pc := 357) (j := 3) C dL_law_357 rfl rfl ?_
        refine v_aload_n (pc := 358) (j := 1) C dL_law_358 rfl rfl ?_
        refine v_iload (pc := 359) (j := 5) C dL_law_359 rfl ?_
        refine v_iconst (pc := 361) (v := (1 : Int32)) C dL_law_361 rfl ?_
        refine v_iadd (pc := 362) C dL_law_362 ?_
        obtain ⟨x683, ex683, hf⟩ := hf
        refine v_iaload (pc := 363) C ex683 dL_law_363 ?_
        refine v_aload_n (pc := 364) (j := 1) C dL_law_364 rfl rfl ?_
        refine v_iload (pc := 365) (j := 5) C dL_law_365 rfl ?_
        refine v_iconst (pc := 367) (v := (2 : Int32)) C dL_law_367 rfl ?_
        refine v_iadd (pc := 368) C dL_law_368 ?_
        obtain ⟨x684, ex684, hf⟩ := hf
        refine v_iaload (pc := 369) C ex684 dL_law_369 ?_
        refine v_aload_n (pc := 370) (j := 1) C dL_law_370 rfl rfl ?_
        refine v_iload (pc := 371) (j := 5) C dL_law_371 rfl ?_
        refine v_iconst (pc := 373) (v := (3 : Int32)) C dL_law_373 rfl ?_
        refine v_iadd (pc := 374) C dL_law_374 ?_
        obtain ⟨x685, ex685, hf⟩ := hf
        refine v_iaload (pc := 375) C ex685 dL_law_375 ?_
        obtain ⟨b686, eb686, hf⟩ := hf
        obtain ⟨rb686, _, kb686⟩ := aIs_eq eb686
        obtain ⟨x687, h688, ex687, hf⟩ := hf
        refine v_call (pc := 376) (d_V (pc := 376) C (As := [.int x683, .int x684, .int x685]) (rest := []) rb686 kb686 nt_1 q2504 yi_X2_setDepth_FigureSurveyModel yk_X2_setDepth rfl (by decide) (by decide) (Nat.le_trans aw_0 (by decide)) rfl (mX2_setDepth C.st ex687) dL_law_376) ?_
        refine v_istore (pc := 379) (lv' := [(6, false, .int x687), (5, false, .int x680), (0, false, va_rf a0), (1, false, va_rf a1), (2, false, va_rf a2), (3, false, va_rf a3), (4, false, .int a4)]) C dL_law_379 (by decide) rfl ?_
        refine v_aload_n (pc := 381) (j := 4) C dL_law_381 rfl rfl ?_
        obtain ⟨b689, eb689, hf⟩ := hf
        obtain ⟨rb689, _, kb689⟩ := aIs_eq eb689
        obtain ⟨x690, ex690, hf⟩ := hf
        refine v_call (pc := 382) (d_V (pc := 382) C (As := []) (rest := []) rb689 kb689 nt_1 q2487 yi_X2_thrown_FigureSurveyModel yk_X2_thrown rfl (by decide) (by decide) (Nat.le_trans aw_0 (by decide)) rfl (mX2_thrown C.st ex690) dL_law_382) ?_
        refine v_iload (pc := 385) (j := 1) C dL_law_385 rfl ?_
        refine v_icmp_eq (pc := 387) (tgt := 392) C dL_law_387 rfl (fun hc => ?_) (fun hc => ?_)
        · rw [if_pos hc] at hf
          refine v_iload (pc := 392) (j := 1) C dL_law_392 rfl ?_
          refine v_if_ne (pc := 394) (tgt := 409) C dL_law_394 rfl (fun hc => ?_) (fun hc => ?_)
          · rw [if_neg hc] at hf
            refine v_goto (pc := 409) (tgt := 3952) C dL_law_409 rfl ?_
            exact V.sub [2, 3, 4, 5, 6] rfl (vL_p3952 L ih hf)
          · rw [if_pos (Decidable.of_not_not hc)] at hf
            refine v_aload_n (pc := 397) (j := 5) C dL_law_397 rfl rfl ?_
            refine v_iconst (pc := 398) (v := (0 : Int32)) C dL_law_398 rfl ?_
            obtain ⟨x692, ex692, hf⟩ := hf
            refine v_laload (pc := 399) C ex692 dL_law_399 ?_
            refine v_iload (pc := 400) (j := 0) C dL_law_400 rfl ?_
            refine v_i2l (pc := 402) C dL_law_402 ?_
            refine v_lcmp (pc := 403) C dL_law_403 ?_
            refine v_if_eq (pc := 404) (tgt := 409) C dL_law_404 rfl (fun hc => ?_) (fun hc => ?_)
            · rw [if_pos hc] at hf
              refine v_goto (pc := 409) (tgt := 3952) C dL_law_409 rfl ?_
              exact V.sub [2, 3, 4, 5, 6] rfl (vL_p3952 L ih hf)
            · rw [if_neg hc] at hf
              refine v_iconst (pc := 407) (v := (0 : Int32)) C dL_law_407 rfl ?_
              exact hf.elim
        · rw [if_neg hc] at hf
          refine v_iconst (pc := 390) (v := (0 : Int32)) C dL_law_390 rfl ?_
          exact hf.elim
      rw [if_neg j1] at hf
      by_cases j2 : (x2 &&& (63 : Int32)) = (2 : Int32)
      · rw [if_pos j2] at hf
        rw [j2]
        refine v_tableIn (pc := 39) (off := 373) (tgt := 412) C dL_law_39 (by decide) (by decide) rfl rfl ?_
        refine v_aload_n (pc := 412) (j := 1) C dL_law_412 rfl rfl ?_
        refine v_aload_n (pc := 413) (j := 0) C dL_law_413 rfl rfl ?_
        refine v_iload (pc := 414) (j := 4) C dL_law_414 rfl ?_
        refine v_iconst (pc := 416) (v := (1 : Int32)) C dL_law_416 rfl ?_
        refine v_iadd (pc := 417) C dL_law_417 ?_
        obtain ⟨x663, ex663, hf⟩ := hf
        refine v_iaload (pc := 418) C ex663 dL_law_418 ?_
        refine v_aload_n (pc := 419) (j := 0) C dL_law_419 rfl rfl ?_
        refine v_iload (pc := 420) (j := 4) C dL_law_420 rfl ?_
        refine v_iconst (pc := 422) (v := (2 : Int32)) C dL_law_422 rfl ?_
        refine v_iadd (pc := 423) C dL_law_423 ?_
        obtain ⟨x664, ex664, hf⟩ := hf
        refine v_iaload (pc := 424) C ex664 dL_law_424 ?_
        refine v_aload_n (pc := 425) (j := 3) C dL_law_425 rfl rfl ?_
        obtain ⟨x665, h666, ex665, ox665, hf⟩ := hf
        refine v_wcall (pc := 426) (As := [va_rf a1, .int x663, .int x664, va_rf a3]) (rest := []) C L.2.2.2.2.2.1 q1725 q1726 q1727 q73 ⟨by decide +kernel, by decide +kernel⟩ (n9 := 4) (by decide +kernel) rfl (by decide) (by decide) (Nat.le_trans aw_0 (by decide)) rfl (mX0_light C.st ex665) dL_law_426 ox665.1 (by have := L.2.1; have := ox665.2.1; omega) fun D1 h667 hs => ?_
        have L := L.step (by have := L.2.1; have := ox665.2.1; omega) hs (by have := L.2.1; have := ox665.2.2; have := L.2.2.2.2.2.2; omega)
        have hf := hf D1 h667 hs
        have C := L.1
        refine v_istore (pc := 429) (lv' := [(5, false, .int x665), (0, false, va_rf a0), (1, false, va_rf a1), (2, false, va_rf a2), (3, false, va_rf a3), (4, false, .int a4)]) C dL_law_429 (by decide) rfl ?_
        refine v_aload_n (pc := 431) (j := 3) C dL_law_431 rfl rfl ?_
        refine v_aload_n (pc := 432) (j := 1) C dL_law_432 rfl rfl ?_
        refine v_iload (pc := 433) (j := 5) C dL_law_433 rfl ?_
        refine v_iconst (pc := 435) (v := (1 : Int32)) C dL_law_435 rfl ?_
        refine v_iadd (pc := 436) C dL_law_436 ?_
        obtain ⟨x668, ex668, hf⟩ := hf
        refine v_iaload (pc := 437) C ex668 dL_law_437 ?_
        refine v_aload_n (pc := 438) (j := 1) C dL_law_438 rfl rfl ?_
        refine v_iload (pc := 439) (j := 5) C dL_law_439 rfl ?_
        refine v_iconst (pc := 441) (v := (2 : Int32)) C dL_law_441 rfl ?_
        refine v_iadd (pc := 442) C dL_law_442 ?_
        obtain ⟨x669, ex669, hf⟩ := hf
        refine v_iaload (pc := 443) C ex669 dL_law_443 ?_
        obtain ⟨b670, eb670, hf⟩ := hf
        obtain ⟨rb670, _, kb670⟩ := aIs_eq eb670
        obtain ⟨x671, h672, ex671, hf⟩ := hf
        refine v_call (pc := 444) (d_V (pc := 444) C (As := [.int x668, .int x669]) (rest := []) rb670 kb670 nt_1 q2522 yi_X2_light_FigureSurveyModel yk_X2_light rfl (by decide) (by decide) (Nat.le_trans aw_0 (by decide)) rfl (mX2_light C.st ex671) dL_law_444) ?_
        refine v_istore (pc := 447) (lv' := [(6, false, .int x671), (5, false, .int x665), (0, false, va_rf a0), (1, false, va_rf a1), (2, false, va_rf a2), (3, false, va_rf a3), (4, false, .int a4)]) C dL_law_447 (by decide) rfl ?_
        refine v_aload_n (pc := 449) (j := 4) C dL_law_449 rfl rfl ?_
        obtain ⟨b673, eb673, hf⟩ := hf
        obtain ⟨rb673, _, kb673⟩ := aIs_eq eb673
        obtain ⟨x674, ex674, hf⟩ := hf
        refine v_call (pc := 450) (d_V (pc := 450) C (As := []) (rest := []) rb673 kb673 nt_1 q2487 yi_X2_thrown_FigureSurveyModel yk_X2_thrown rfl (by decide) (by decide) (Nat.le_trans aw_0 (by decide)) rfl (mX2_thrown C.st ex674) dL_law_450) ?_
        refine v_iload (pc := 453) (j := 1) C dL_law_453 rfl ?_
        refine v_icmp_eq (pc := 455) (tgt := 460) C dL_law_455 rfl (fun hc => ?_) (fun hc => ?_)
        · rw [if_pos hc] at hf
          refine v_iload (pc := 460) (j := 1) C dL_law_460 rfl ?_
          refine v_if_ne (pc := 462) (tgt := 477) C dL_law_462 rfl (fun hc => ?_) (fun hc => ?_)
          · rw [if_neg hc] at hf
            refine v_goto (pc := 477) (tgt := 3952) C dL_law_477 rfl ?_
            exact V.sub [2, 3, 4, 5, 6] rfl (vL_p3952 L ih hf)
          · rw [if_pos (Decidable.of_not_not hc)] at hf
            refine v_aload_n (pc := 465) (j := 5) C dL_law_465 rfl rfl ?_
            refine v_iconst (pc := 466) (v := (0 : Int32)) C dL_law_466 rfl ?_
            obtain ⟨x676, ex676, hf⟩ := hf
            refine v_laload (pc := 467) C ex676 dL_law_467 ?_
            refine v_iload (pc := 468) (j := 0) C dL_law_468 rfl ?_
            refine v_i2l (pc := 470) C dL_law_470 ?_
            refine v_lcmp (pc := 471) C dL_law_471 ?_
            refine v_if_eq (pc := 472) (tgt := 477) C dL_law_472 rfl (fun hc => ?_) (fun hc => ?_)
            · rw [if_pos hc] at hf
              refine v_goto (pc := 477) (tgt := 3952) C dL_law_477 rfl ?_
              exact V.sub [2, 3, 4, 5, 6] rfl (vL_p3952 L ih hf)
            · rw [if_neg hc] at hf
              refine v_iconst (pc := 475) (v := (0 : Int32)) C dL_law_475 rfl ?_
              exact hf.elim
        · rw [if_neg hc] at hf
          refine v_iconst (pc := 458) (v := (0 : Int32)) C dL_law_458 rfl ?_
          exact hf.elim
      rw [if_neg j2] at hf
      by_cases j3 : (x2 &&& (63 : Int32)) = (3 : Int32)
      · rw [if_pos j3] at hf
        rw [j3]
        refine v_tableIn (pc := 39) (off := 441) (tgt := 480) C dL_law_39 (by decide) (by decide) rfl rfl ?_
        refine v_aload_n (pc := 480) (j := 1) C dL_law_480 rfl rfl ?_
        refine v_aload_n (pc := 481) (j := 0) C dL_law_481 rfl rfl ?_
        refine v_iload (pc := 482) (j := 4) C dL_law_482 rfl ?_
        refine v_iconst (pc := 484) (v := (1 : Int32)) C dL_law_484 rfl ?_
        refine v_iadd (pc := 485) C dL_law_485 ?_
        obtain ⟨x649, ex649, hf⟩ := hf
        refine v_iaload (pc := 486) C ex649 dL_law_486 ?_
        refine v_aload_n (pc := 487) (j := 0) C dL_law_487 rfl rfl ?_
        refine v_iload (pc := 488) (j := 4) C dL_law_488 rfl ?_
        refine v_iconst (pc := 490) (v := (2 : Int32)) C dL_law_490 rfl ?_
        refine v_iadd (pc := 491) C dL_law_491 ?_
        obtain ⟨x650, ex650, hf⟩ := hf
        refine v_iaload (pc := 492) C ex650 dL_law_492 ?_
        refine v_aload_n (pc := 493) (j := 3) C dL_law_493 rfl rfl ?_
        obtain ⟨x651, h652, ex651, ox651, hf⟩ := hf
        refine v_wcall (pc := 494) (As := [va_rf a1, .int x649, .int x650, va_rf a3]) (rest := []) C L.2.2.2.2.2.1 q1732 q1733 q1734 q73 ⟨by decide +kernel, by decide +kernel⟩ (n9 := 4) (by decide +kernel) rfl (by decide) (by decide) (Nat.le_trans aw_0 (by decide)) rfl (mX0_seen C.st ex651) dL_law_494 ox651.1 (by have := L.2.1; have := ox651.2.1; omega) fun D1 h653 hs => ?_
        have L := L.step (by have := L.2.1; have := ox651.2.1; omega) hs (by have := L.2.1; have := ox651.2.2; have := L.2.2.2.2.2.2; omega)
        have hf := hf D1 h653 hs
        have C := L.1
        refine v_istore (pc := 497) (lv' := [(5, false, .int x651), (0, false, va_rf a0), (1, false, va_rf a1), (2, false, va_rf a2), (3, false, va_rf a3), (4, false, .int a4)]) C dL_law_497 (by decide) rfl ?_
        refine v_aload_n (pc := 499) (j := 3) C dL_law_499 rfl rfl ?_
        refine v_aload_n (pc := 500) (j := 1) C dL_law_500 rfl rfl ?_
        refine v_iload (pc := 501) (j := 5) C dL_law_501 rfl ?_
        refine v_iconst (pc := 503) (v := (1 : Int32)) C dL_law_503 rfl ?_
        refine v_iadd (pc := 504) C dL_law_504 ?_
        obtain ⟨x654, ex654, hf⟩ := hf
        refine v_iaload (pc := 505) C ex654 dL_law_505 ?_
        refine v_aload_n (pc := 506) (j := 1) C dL_law_506 rfl rfl ?_
        refine v_iload (pc := 507) (j := 5) C dL_law_507 rfl ?_
        refine v_iconst (pc := 509) (v := (2 : Int32)) C dL_law_509 rfl ?_
        refine v_iadd (pc := 510) C dL_law_510 ?_
        obtain ⟨x655, ex655, hf⟩ := hf
        refine v_iaload (pc := 511) C ex655 dL_law_511 ?_
        obtain ⟨b656, eb656, hf⟩ := hf
        obtain ⟨rb656, _, kb656⟩ := aIs_eq eb656
        obtain ⟨x657, h658, ex657, hf⟩ := hf
        refine v_call (pc := 512) (d_V (pc := 512) C (As := [.int x654, .int x655]) (rest := []) rb656 kb656 nt_1 q2527 yi_X2_seen_FigureSurveyModel yk_X2_seen rfl (by decide) (by decide) (Nat.le_trans aw_0 (by decide)) rfl (mX2_seen C.st ex657) dL_law_512) ?_
        refine v_istore (pc := 515) (lv' := [(6, false, .int x657), (5, false, .int x651), (0, false, va_rf a0), (1, false, va_rf a1), (2, false, va_rf a2), (3, false, va_rf a3), (4, false, .int a4)]) C dL_law_515 (by decide) rfl ?_
        refine v_aload_n (pc := 517) (j := 4) C dL_law_517 rfl rfl ?_
        obtain ⟨b659, eb659, hf⟩ := hf
        obtain ⟨rb659, _, kb659⟩ := aIs_eq eb659
        obtain ⟨x660, ex660, hf⟩ := hf
        refine v_call (pc := 518) (d_V (pc := 518) C (As := []) (rest := []) rb659 kb659 nt_1 q2487 yi_X2_thrown_FigureSurveyModel yk_X2_thrown rfl (by decide) (by decide) (Nat.le_trans aw_0 (by decide)) rfl (mX2_thrown C.st ex660) dL_law_518) ?_
        refine v_iload (pc := 521) (j := 1) C dL_law_521 rfl ?_
        refine v_icmp_eq (pc := 523) (tgt := 528) C dL_law_523 rfl (fun hc => ?_) (fun hc => ?_)
        · rw [if_pos hc] at hf
          refine v_iload (pc := 528) (j := 1) C dL_law_528 rfl ?_
          refine v_if_ne (pc := 530) (tgt := 545) C dL_law_530 rfl (fun hc => ?_) (fun hc => ?_)
          · rw [if_neg hc] at hf
            refine v_goto (pc := 545) (tgt := 3952) C dL_law_545 rfl ?_
            exact V.sub [2, 3, 4, 5, 6] rfl (vL_p3952 L ih hf)
          · rw [if_pos (Decidable.of_not_not hc)] at hf
            refine v_aload_n (pc := 533) (j := 5) C dL_law_533 rfl rfl ?_
            refine v_iconst (pc := 534) (v := (0 : Int32)) C dL_law_534 rfl ?_
            obtain ⟨x662, ex662, hf⟩ := hf
            refine v_laload (pc := 535) C ex662 dL_law_535 ?_
            refine v_iload (pc := 536) (j := 0) C dL_law_536 rfl ?_
            refine v_i2l (pc := 538) C dL_law_538 ?_
            refine v_lcmp (pc := 539) C dL_law_539 ?_
            refine v_if_eq (pc := 540) (tgt := 545) C dL_law_540 rfl (fun hc => ?_) (fun hc => ?_)
            · rw [if_pos hc] at hf
              refine v_goto (pc := 545) (tgt := 3952) C dL_law_545 rfl ?_
              exact V.sub [2, 3, 4, 5, 6] rfl (vL_p3952 L ih hf)
            · rw [if_neg hc] at hf
              refine v_iconst (pc := 543) (v := (0 : Int32)) C dL_law_543 rfl ?_
              exact hf.elim
        · rw [if_neg hc] at hf
          refine v_iconst (pc := 526) (v := (0 : Int32)) C dL_law_526 rfl ?_
          exact hf.elim
      rw [if_neg j3] at hf
      by_cases j4 : (x2 &&& (63 : Int32)) = (4 : Int32)
      · rw [if_pos j4] at hf
        rw [j4]
        refine v_tableIn (pc := 39) (off := 509) (tgt := 548) C dL_law_39 (by decide) (by decide) rfl rfl ?_
        refine v_aload_n (pc := 548) (j := 1) C dL_law_548 rfl rfl ?_
        refine v_aload_n (pc := 549) (j := 0) C dL_law_549 rfl rfl ?_
        refine v_iload (pc := 550) (j := 4) C dL_law_550 rfl ?_
        refine v_iconst (pc := 552) (v := (1 : Int32)) C dL_law_552 rfl ?_
        refine v_iadd (pc := 553) C dL_law_553 ?_
        obtain ⟨x635, ex635, hf⟩ := hf
        refine v_iaload (pc := 554) C ex635 dL_law_554 ?_
        refine v_aload_n (pc := 555) (j := 0) C dL_law_555 rfl rfl ?_
        refine v_iload (pc := 556) (j := 4) C dL_law_556 rfl ?_
        refine v_iconst (pc := 558) (v := (2 : Int32)) C dL_law_558 rfl ?_
        refine v_iadd (pc := 559) C dL_law_559 ?_
        obtain ⟨x636, ex636, hf⟩ := hf
        refine v_iaload (pc := 560) C ex636 dL_law_560 ?_
        refine v_aload_n (pc := 561) (j := 3) C dL_law_561 rfl rfl ?_
        obtain ⟨x637, h638, ex637, ox637, hf⟩ := hf
        refine v_wcall (pc := 562) (As := [va_rf a1, .int x635, .int x636, va_rf a3]) (rest := []) C L.2.2.2.2.2.1 q1753 q1754 q1755 q73 ⟨by decide +kernel, by decide +kernel⟩ (n9 := 4) (by decide +kernel) rfl (by decide) (by decide) (Nat.le_trans aw_0 (by decide)) rfl (mX0_edges C.st ex637) dL_law_562 ox637.1 (by have := L.2.1; have := ox637.2.1; omega) fun D1 h639 hs => ?_
        have L := L.step (by have := L.2.1; have := ox637.2.1; omega) hs (by have := L.2.1; have := ox637.2.2; have := L.2.2.2.2.2.2; omega)
        have hf := hf D1 h639 hs
        have C := L.1
        refine v_istore (pc := 565) (lv' := [(5, false, .int x637), (0, false, va_rf a0), (1, false, va_rf a1), (2, false, va_rf a2), (3, false, va_rf a3), (4, false, .int a4)]) C dL_law_565 (by decide) rfl ?_
        refine v_aload_n (pc := 567) (j := 3) C dL_law_567 rfl rfl ?_
        refine v_aload_n (pc := 568) (j := 1) C dL_law_568 rfl rfl ?_
        refine v_iload (pc := 569) (j := 5) C dL_law_569 rfl ?_
        refine v_iconst (pc := 571) (v := (1 : Int32)) C dL_law_571 rfl ?_
        refine v_iadd (pc := 572) C dL_law_572 ?_
        obtain ⟨x640, ex640, hf⟩ := hf
        refine v_iaload (pc := 573) C ex640 dL_law_573 ?_
        refine v_aload_n (pc := 574) (j := 1) C dL_law_574 rfl rfl ?_
        refine v_iload (pc := 575) (j := 5) C dL_law_575 rfl ?_
        refine v_iconst (pc := 577) (v := (2 : Int32)) C dL_law_577 rfl ?_
        refine v_iadd (pc := 578) C dL_law_578 ?_
        obtain ⟨x641, ex641, hf⟩ := hf
        refine v_iaload (pc := 579) C ex641 dL_law_579 ?_
        obtain ⟨b642, eb642, hf⟩ := hf
        obtain ⟨rb642, _, kb642⟩ := aIs_eq eb642
        obtain ⟨x643, h644, ex643, hf⟩ := hf
        refine v_call (pc := 580) (d_V (pc := 580) C (As := [.int x640, .int x641]) (rest := []) rb642 kb642 nt_1 q2536 yi_X2_edges_FigureSurveyModel yk_X2_edges rfl (by decide) (by decide) (Nat.le_trans aw_0 (by decide)) rfl (mX2_edges C.st ex643) dL_law_580) ?_
        refine v_lstore (pc := 583) (lv' := [(6, true, .long x643), (5, false, .int x637), (0, false, va_rf a0), (1, false, va_rf a1), (2, false, va_rf a2), (3, false, va_rf a3), (4, false, .int a4)]) C dL_law_583 (by decide) rfl ?_
        refine v_aload_n (pc := 585) (j := 4) C dL_law_585 rfl rfl ?_
        obtain ⟨b645, eb645, hf⟩ := hf
        obtain ⟨rb645, _, kb645⟩ := aIs_eq eb645
        obtain ⟨x646, ex646, hf⟩ := hf
        refine v_call (pc := 586) (d_V (pc := 586) C (As := []) (rest := []) rb645 kb645 nt_1 q2487 yi_X2_thrown_FigureSurveyModel yk_X2_thrown rfl (by decide) (by decide) (Nat.le_trans aw_0 (by decide)) rfl (mX2_thrown C.st ex646) dL_law_586) ?_
        refine v_iload (pc := 589) (j := 1) C dL_law_589 rfl ?_
        refine v_icmp_eq (pc := 591) (tgt := 596) C dL_law_591 rfl (fun hc => ?_) (fun hc => ?_)
        · rw [if_pos hc] at hf
          refine v_iload (pc := 596) (j := 1) C dL_law_596 rfl ?_
          refine v_if_ne (pc := 598) (tgt := 612) C dL_law_598 rfl (fun hc => ?_) (fun hc => ?_)
          · rw [if_neg hc] at hf
            refine v_goto (pc := 612) (tgt := 3952) C dL_law_612 rfl ?_
            exact V.sub [2, 3, 4, 5, 6] rfl (vL_p3952 L ih hf)
          · rw [if_pos (Decidable.of_not_not hc)] at hf
            refine v_aload_n (pc := 601) (j := 5) C dL_law_601 rfl rfl ?_
            refine v_iconst (pc := 602) (v := (0 : Int32)) C dL_law_602 rfl ?_
            obtain ⟨x648, ex648, hf⟩ := hf
            refine v_laload (pc := 603) C ex648 dL_law_603 ?_
            refine v_lload (pc := 604) (j := 0) C dL_law_604 rfl ?_
            refine v_lcmp (pc := 606) C dL_law_606 ?_
            refine v_if_eq (pc := 607) (tgt := 612) C dL_law_607 rfl (fun hc => ?_) (fun hc => ?_)
            · rw [if_pos hc] at hf
              refine v_goto (pc := 612) (tgt := 3952) C dL_law_612 rfl ?_
              exact V.sub [2, 3, 4, 5, 6] rfl (vL_p3952 L ih hf)
            · rw [if_neg hc] at hf
              refine v_iconst (pc := 610) (v := (0 : Int32)) C dL_law_610 rfl ?_
              exact hf.elim
        · rw [if_neg hc] at hf
          refine v_iconst (pc := 594) (v := (0 : Int32)) C dL_law_594 rfl ?_
          exact hf.elim
      rw [if_neg j4] at hf
      by_cases j5 : (x2 &&& (63 : Int32)) = (5 : Int32)
      · rw [if_pos j5] at hf
        rw [j5]
        refine v_tableIn (pc := 39) (off := 576) (tgt := 615) C dL_law_39 (by decide) (by decide) rfl rfl ?_
        refine v_aload_n (pc := 615) (j := 1) C dL_law_615 rfl rfl ?_
        refine v_aload_n (pc := 616) (j := 0) C dL_law_616 rfl rfl ?_
        refine v_iload (pc := 617) (j := 4) C dL_law_617 rfl ?_
        refine v_iconst (pc := 619) (v := (1 : Int32)) C dL_law_619 rfl ?_
        refine v_iadd (pc := 620) C dL_law_620 ?_
        obtain ⟨x619, ex619, hf⟩ := hf
        refine v_iaload (pc := 621) C ex619 dL_law_621 ?_
        refine v_aload_n (pc := 622) (j := 0) C dL_law_622 rfl rfl ?_
        refine v_iload (pc := 623) (j := 4) C dL_law_623 rfl ?_
        refine v_iconst (pc := 625) (v := (2 : Int32)) C dL_law_625 rfl ?_
        refine v_iadd (pc := 626) C dL_law_626 ?_
        obtain ⟨x620, ex620, hf⟩ := hf
        refine v_iaload (pc := 627) C ex620 dL_law_627 ?_
        refine v_i2l (pc := 628) C dL_law_628 ?_
        refine v_bipush (pc := 629) (v := (32 : Int32)) C dL_law_629 rfl ?_
        refine v_lshl (pc := 631) C dL_law_631 ?_
        refine v_aload_n (pc := 632) (j := 0) C dL_law_632 rfl rfl ?_
        refine v_iload (pc := 633) (j := 4) C dL_law_633 rfl ?_
        refine v_iconst (pc := 635) (v := (3 : Int32)) C dL_law_635 rfl ?_
        refine v_iadd (pc := 636) C dL_law_636 ?_
        obtain ⟨x621, ex621, hf⟩ := hf
        refine v_iaload (pc := 637) C ex621 dL_law_637 ?_
        refine v_i2l (pc := 638) C dL_law_638 ?_
        refine v_ldc2 (pc := 639) (v := (4294967295 : Int64)) C q2920 dL_law_639 ?_
        refine v_land (pc := 642) C dL_law_642 ?_
        refine v_lor (pc := 643) C dL_law_643 ?_
        refine v_aload_n (pc := 644) (j := 3) C dL_law_644 rfl rfl ?_
        obtain ⟨x622, h623, ex622, ox622, hf⟩ := hf
        refine v_wcall (pc := 645) (As := [va_rf a1, .int x619, .long ((x620.toInt64 <<< ((32 : Int32).toInt64 &&& 63)) ||| (x621.toInt64 &&& (4294967295 : Int64))), va_rf a3]) (rest := []) C L.2.2.2.2.2.1 q1765 q1766 q1767 q73 ⟨by decide +kernel, by decide +kernel⟩ (n9 := 4) (by decide +kernel) rfl (by decide) (by decide) (Nat.le_trans aw_0 (by decide)) rfl (mX0_addStroke C.st ex622) dL_law_645 ox622.1 (by have := L.2.1; have := ox622.2.1; omega) fun D1 h624 hs => ?_
        have L := L.step (by have := L.2.1; have := ox622.2.1; omega) hs (by have := L.2.1; have := ox622.2.2; have := L.2.2.2.2.2.2; omega)
        have hf := hf D1 h624 hs
        have C := L.1
        refine v_istore (pc := 648) (lv' := [(5, false, .int x622), (0, false, va_rf a0), (1, false, va_rf a1), (2, false, va_rf a2), (3, false, va_rf a3), (4, false, .int a4)]) C dL_law_648 (by decide) rfl ?_
        refine v_aload_n (pc := 650) (j := 3) C dL_law_650 rfl rfl ?_
        refine v_aload_n (pc := 651) (j := 1) C dL_law_651 rfl rfl ?_
        refine v_iload (pc := 652) (j := 5) C dL_law_652 rfl ?_
        refine v_iconst (pc := 654) (v := (1 : Int32)) C dL_law_654 rfl ?_
        refine v_iadd (pc := 655) C dL_law_655 ?_
        obtain ⟨x625, ex625, hf⟩ := hf
        refine v_iaload (pc := 656) C ex625 dL_law_656 ?_
        refine v_aload_n (pc := 657) (j := 1) C dL_law_657 rfl rfl ?_
        refine v_iload (pc := 658) (j := 5) C dL_law_658 rfl ?_
        refine v_iconst (pc := 660) (v := (2 : Int32)) C dL_law_660 rfl ?_
        refine v_iadd (pc := 661) C dL_law_661 ?_
        obtain ⟨x626, ex626, hf⟩ := hf
        refine v_iaload (pc := 662) C ex626 dL_law_662 ?_
        refine v_i2l (pc := 663) C dL_law_663 ?_
        refine v_bipush (pc := 664) (v := (32 : Int32)) C dL_law_664 rfl ?_
        refine v_lshl (pc := 666) C dL_law_666 ?_
        refine v_aload_n (pc := 667) (j := 1) C dL_law_667 rfl rfl ?_
        refine v_iload (pc := 668) (j := 5) C dL_law_668 rfl ?_
        refine v_iconst (pc := 670) (v := (3 : Int32)) C dL_law_670 rfl ?_
        refine v_iadd (pc := 671) C dL_law_671 ?_
        obtain ⟨x627, ex627, hf⟩ := hf
        refine v_iaload (pc := 672) C ex627 dL_law_672 ?_
        refine v_i2l (pc := 673) C dL_law_673 ?_
        refine v_ldc2 (pc := 674) (v := (4294967295 : Int64)) C q2920 dL_law_674 ?_
        refine v_land (pc := 677) C dL_law_677 ?_
        refine v_lor (pc := 678) C dL_law_678 ?_
        obtain ⟨b628, eb628, hf⟩ := hf
        obtain ⟨rb628, _, kb628⟩ := aIs_eq eb628
        obtain ⟨x629, h630, ex629, hf⟩ := hf
        refine v_call (pc := 679) (d_V (pc := 679) C (As := [.int x625, .long ((x626.toInt64 <<< ((32 : Int32).toInt64 &&& 63)) ||| (x627.toInt64 &&& (4294967295 : Int64)))]) (rest := []) rb628 kb628 nt_1 q2544 yi_X2_addStroke_FigureSurveyModel yk_X2_addStroke rfl (by decide) (by decide) (Nat.le_trans aw_0 (by decide)) rfl (mX2_addStroke C.st ex629) dL_law_679) ?_
        refine v_istore (pc := 682) (lv' := [(6, false, .int x629), (5, false, .int x622), (0, false, va_rf a0), (1, false, va_rf a1), (2, false, va_rf a2), (3, false, va_rf a3), (4, false, .int a4)]) C dL_law_682 (by decide) rfl ?_
        refine v_aload_n (pc := 684) (j := 4) C dL_law_684 rfl rfl ?_
        obtain ⟨b631, eb631, hf⟩ := hf
        obtain ⟨rb631, _, kb631⟩ := aIs_eq eb631
        obtain ⟨x632, ex632, hf⟩ := hf
        refine v_call (pc := 685) (d_V (pc := 685) C (As := []) (rest := []) rb631 kb631 nt_1 q2487 yi_X2_thrown_FigureSurveyModel yk_X2_thrown rfl (by decide) (by decide) (Nat.le_trans aw_0 (by decide)) rfl (mX2_thrown C.st ex632) dL_law_685) ?_
        refine v_iload (pc := 688) (j := 1) C dL_law_688 rfl ?_
        refine v_icmp_eq (pc := 690) (tgt := 695) C dL_law_690 rfl (fun hc => ?_) (fun hc => ?_)
        · rw [if_pos hc] at hf
          refine v_iload (pc := 695) (j := 1) C dL_law_695 rfl ?_
          refine v_if_ne (pc := 697) (tgt := 712) C dL_law_697 rfl (fun hc => ?_) (fun hc => ?_)
          · rw [if_neg hc] at hf
            refine v_goto (pc := 712) (tgt := 3952) C dL_law_712 rfl ?_
            exact V.sub [2, 3, 4, 5, 6] rfl (vL_p3952 L ih hf)
          · rw [if_pos (Decidable.of_not_not hc)] at hf
            refine v_aload_n (pc := 700) (j := 5) C dL_law_700 rfl rfl ?_
            refine v_iconst (pc := 701) (v := (0 : Int32)) C dL_law_701 rfl ?_
            obtain ⟨x634, ex634, hf⟩ := hf
            refine v_laload (pc := 702) C ex634 dL_law_702 ?_
            refine v_iload (pc := 703) (j := 0) C dL_law_703 rfl ?_
            refine v_i2l (pc := 705) C dL_law_705 ?_
            refine v_lcmp (pc := 706) C dL_law_706 ?_
            refine v_if_eq (pc := 707) (tgt := 712) C dL_law_707 rfl (fun hc => ?_) (fun hc => ?_)
            · rw [if_pos hc] at hf
              refine v_goto (pc := 712) (tgt := 3952) C dL_law_712 rfl ?_
              exact V.sub [2, 3, 4, 5, 6] rfl (vL_p3952 L ih hf)
            · rw [if_neg hc] at hf
              refine v_iconst (pc := 710) (v := (0 : Int32)) C dL_law_710 rfl ?_
              exact hf.elim
        · rw [if_neg hc] at hf
          refine v_iconst (pc := 693) (v := (0 : Int32)) C dL_law_693 rfl ?_
          exact hf.elim
      rw [if_neg j5] at hf
      by_cases j6 : (x2 &&& (63 : Int32)) = (6 : Int32)
      · rw [if_pos j6] at hf
        rw [j6]
        refine v_tableIn (pc := 39) (off := 676) (tgt := 715) C dL_law_39 (by decide) (by decide) rfl rfl ?_
        refine v_aload_n (pc := 715) (j := 1) C dL_law_715 rfl rfl ?_
        refine v_aload_n (pc := 716) (j := 0) C dL_law_716 rfl rfl ?_
        refine v_iload (pc := 717) (j := 4) C dL_law_717 rfl ?_
        refine v_iconst (pc := 719) (v := (1 : Int32)) C dL_law_719 rfl ?_
        refine v_iadd (pc := 720) C dL_law_720 ?_
        obtain ⟨x607, ex607, hf⟩ := hf
        refine v_iaload (pc := 721) C ex607 dL_law_721 ?_
        refine v_aload_n (pc := 722) (j := 3) C dL_law_722 rfl rfl ?_
        obtain ⟨x608, h609, ex608, ox608, hf⟩ := hf
        refine v_wcall (pc := 723) (As := [va_rf a1, .int x607, va_rf a3]) (rest := []) C L.2.2.2.2.2.1 q1795 q1796 q1797 q73 ⟨by decide +kernel, by decide +kernel⟩ (n9 := 3) (by decide +kernel) rfl (by decide) (by decide) (Nat.le_trans aw_0 (by decide)) rfl (mX0_addFigure C.st ex608) dL_law_723 ox608.1 (by have := L.2.1; have := ox608.2.1; omega) fun D1 h610 hs => ?_
        have L := L.step (by have := L.2.1; have := ox608.2.1; omega) hs (by have := L.2.1; have := ox608.2.2; have := L.2.2.2.2.2.2; omega)
        have hf := hf D1 h610 hs
        have C := L.1
        refine v_istore (pc := 726) (lv' := [(5, false, .int x608), (0, false, va_rf a0), (1, false, va_rf a1), (2, false, va_rf a2), (3, false, va_rf a3), (4, false, .int a4)]) C dL_law_726 (by decide) rfl ?_
        refine v_aload_n (pc := 728) (j := 3) C dL_law_728 rfl rfl ?_
        refine v_aload_n (pc := 729) (j := 1) C dL_law_729 rfl rfl ?_
        refine v_iload (pc := 730) (j := 5) C dL_law_730 rfl ?_
        refine v_iconst (pc := 732) (v := (1 : Int32)) C dL_law_732 rfl ?_
        refine v_iadd (pc := 733) C dL_law_733 ?_
        obtain ⟨x611, ex611, hf⟩ := hf
        refine v_iaload (pc := 734) C ex611 dL_law_734 ?_
        obtain ⟨b612, eb612, hf⟩ := hf
        obtain ⟨rb612, _, kb612⟩ := aIs_eq eb612
        obtain ⟨x613, h614, ex613, hf⟩ := hf
        refine v_call (pc := 735) (d_V (pc := 735) C (As := [.int x611]) (rest := []) rb612 kb612 nt_1 q2548 yi_X2_addFigure_FigureSurveyModel yk_X2_addFigure rfl (by decide) (by decide) (Nat.le_trans aw_0 (by decide)) rfl (mX2_addFigure C.st ex613) dL_law_735) ?_
        refine v_istore (pc := 738) (lv' := [(6, false, .int x613), (5, false, .int x608), (0, false, va_rf a0), (1, false, va_rf a1), (2, false, va_rf a2), (3, false, va_rf a3), (4, false, .int a4)]) C dL_law_738 (by decide) rfl ?_
        refine v_aload_n (pc := 740) (j := 4) C dL_law_740 rfl rfl ?_
        obtain ⟨b615, eb615, hf⟩ := hf
        obtain ⟨rb615, _, kb615⟩ := aIs_eq eb615
        obtain ⟨x616, ex616, hf⟩ := hf
        refine v_call (pc := 741) (d_V (pc := 741) C (As := []) (rest := []) rb615 kb615 nt_1 q2487 yi_X2_thrown_FigureSurveyModel yk_X2_thrown rfl (by decide) (by decide) (Nat.le_trans aw_0 (by decide)) rfl (mX2_thrown C.st ex616) dL_law_741) ?_
        refine v_iload (pc := 744) (j := 1) C dL_law_744 rfl ?_
        refine v_icmp_eq (pc := 746) (tgt := 751) C dL_law_746 rfl (fun hc => ?_) (fun hc => ?_)
        · rw [if_pos hc] at hf
          refine v_iload (pc := 751) (j := 1) C dL_law_751 rfl ?_
          refine v_if_ne (pc := 753) (tgt := 768) C dL_law_753 rfl (fun hc => ?_) (fun hc => ?_)
          · rw [if_neg hc] at hf
            refine v_goto (pc := 768) (tgt := 3952) C dL_law_768 rfl ?_
            exact V.sub [2, 3, 4, 5, 6] rfl (vL_p3952 L ih hf)
          · rw [if_pos (Decidable.of_not_not hc)] at hf
            refine v_aload_n (pc := 756) (j := 5) C dL_law_756 rfl rfl ?_
            refine v_iconst (pc := 757) (v := (0 : Int32)) C dL_law_757 rfl ?_
            obtain ⟨x618, ex618, hf⟩ := hf
            refine v_laload (pc := 758) C ex618 dL_law_758 ?_
            refine v_iload (pc := 759) (j := 0) C dL_law_759 rfl ?_
            refine v_i2l (pc := 761) C dL_law_761 ?_
            refine v_lcmp (pc := 762) C dL_law_762 ?_
            refine v_if_eq (pc := 763) (tgt := 768) C dL_law_763 rfl (fun hc => ?_) (fun hc => ?_)
            · rw [if_pos hc] at hf
              refine v_goto (pc := 768) (tgt := 3952) C dL_law_768 rfl ?_
              exact V.sub [2, 3, 4, 5, 6] rfl (vL_p3952 L ih hf)
            · rw [if_neg hc] at hf
              refine v_iconst (pc := 766) (v := (0 : Int32)) C dL_law_766 rfl ?_
              exact hf.elim
        · rw [if_neg hc] at hf
          refine v_iconst (pc := 749) (v := (0 : Int32)) C dL_law_749 rfl ?_
          exact hf.elim
      rw [if_neg j6] at hf
      by_cases j7 : (x2 &&& (63 : Int32)) = (7 : Int32)
      · rw [if_pos j7] at hf
        rw [j7]
        refine v_tableIn (pc := 39) (off := 732) (tgt := 771) C dL_law_39 (by decide) (by decide) rfl rfl ?_
        refine v_aload_n (pc := 771) (j := 1) C dL_law_771 rfl rfl ?_
        refine v_aload_n (pc := 772) (j := 0) C dL_law_772 rfl rfl ?_
        refine v_iload (pc := 773) (j := 4) C dL_law_773 rfl ?_
        refine v_iconst (pc := 775) (v := (1 : Int32)) C dL_law_775 rfl ?_
        refine v_iadd (pc := 776) C dL_law_776 ?_
        obtain ⟨x604, ex604, hf⟩ := hf
        refine v_iaload (pc := 777) C ex604 dL_law_777 ?_
        refine v_aload_n (pc := 778) (j := 0) C dL_law_778 rfl rfl ?_
        refine v_iload (pc := 779) (j := 4) C dL_law_779 rfl ?_
        refine v_iconst (pc := 781) (v := (2 : Int32)) C dL_law_781 rfl ?_
        refine v_iadd (pc := 782) C dL_law_782 ?_
        obtain ⟨x605, ex605, hf⟩ := hf
        refine v_iaload (pc := 783) C ex605 dL_law_783 ?_
        refine v_aload_n (pc := 784) (j := 0) C dL_law_784 rfl rfl ?_
        refine v_iload (pc := 785) (j := 4) C dL_law_785 rfl ?_
        refine v_iconst (pc := 787) (v := (3 : Int32)) C dL_law_787 rfl ?_
        refine v_iadd (pc := 788) C dL_law_788 ?_
        obtain ⟨x606, ex606, hf⟩ := hf
        refine v_iaload (pc := 789) C ex606 dL_law_789 ?_
        refine v_if_eq (pc := 790) (tgt := 797) C dL_law_790 rfl (fun hc => ?_) (fun hc => ?_)
        · rw [if_pos hc] at hf
          refine v_iconst (pc := 797) (v := (0 : Int32)) C dL_law_797 rfl ?_
          exact V.sub [0, 1, 2, 3, 4] rfl (vL_p798 L ih hf)
        · rw [if_neg hc] at hf
          refine v_iconst (pc := 793) (v := (1 : Int32)) C dL_law_793 rfl ?_
          refine v_goto (pc := 794) (tgt := 798) C dL_law_794 rfl ?_
          exact V.sub [0, 1, 2, 3, 4] rfl (vL_p798 L ih hf)
      rw [if_neg j7] at hf
      by_cases j8 : (x2 &&& (63 : Int32)) = (8 : Int32)
      · rw [if_pos j8] at hf
        rw [j8]
        refine v_tableIn (pc := 39) (off := 828) (tgt := 867) C dL_law_39 (by decide) (by decide) rfl rfl ?_
        refine v_aload_n (pc := 867) (j := 1) C dL_law_867 rfl rfl ?_
        refine v_aload_n (pc := 868) (j := 0) C dL_law_868 rfl rfl ?_
        refine v_iload (pc := 869) (j := 4) C dL_law_869 rfl ?_
        refine v_iconst (pc := 871) (v := (1 : Int32)) C dL_law_871 rfl ?_
        refine v_iadd (pc := 872) C dL_law_872 ?_
        obtain ⟨x592, ex592, hf⟩ := hf
        refine v_iaload (pc := 873) C ex592 dL_law_873 ?_
        refine v_aload_n (pc := 874) (j := 3) C dL_law_874 rfl rfl ?_
        obtain ⟨x593, h594, ex593, ox593, hf⟩ := hf
        refine v_wcall (pc := 875) (As := [va_rf a1, .int x592, va_rf a3]) (rest := []) C L.2.2.2.2.2.1 q1871 q1872 q1873 q73 ⟨by decide +kernel, by decide +kernel⟩ (n9 := 3) (by decide +kernel) rfl (by decide) (by decide) (Nat.le_trans aw_0 (by decide)) rfl (mX0_cellsOf C.st ex593) dL_law_875 ox593.1 (by have := L.2.1; have := ox593.2.1; omega) fun D1 h595 hs => ?_
        have L := L.step (by have := L.2.1; have := ox593.2.1; omega) hs (by have := L.2.1; have := ox593.2.2; have := L.2.2.2.2.2.2; omega)
        have hf := hf D1 h595 hs
        have C := L.1
        refine v_istore (pc := 878) (lv' := [(5, false, .int x593), (0, false, va_rf a0), (1, false, va_rf a1), (2, false, va_rf a2), (3, false, va_rf a3), (4, false, .int a4)]) C dL_law_878 (by decide) rfl ?_
        refine v_aload_n (pc := 880) (j := 3) C dL_law_880 rfl rfl ?_
        refine v_aload_n (pc := 881) (j := 1) C dL_law_881 rfl rfl ?_
        refine v_iload (pc := 882) (j := 5) C dL_law_882 rfl ?_
        refine v_iconst (pc := 884) (v := (1 : Int32)) C dL_law_884 rfl ?_
        refine v_iadd (pc := 885) C dL_law_885 ?_
        obtain ⟨x596, ex596, hf⟩ := hf
        refine v_iaload (pc := 886) C ex596 dL_law_886 ?_
        obtain ⟨b597, eb597, hf⟩ := hf
        obtain ⟨rb597, _, kb597⟩ := aIs_eq eb597
        obtain ⟨x598, h599, ex598, hf⟩ := hf
        refine v_call (pc := 887) (d_V (pc := 887) C (As := [.int x596]) (rest := []) rb597 kb597 nt_1 q2568 yi_X2_cellsOf_FigureSurveyModel yk_X2_cellsOf rfl (by decide) (by decide) (Nat.le_trans aw_0 (by decide)) rfl (mX2_cellsOf C.st ex598) dL_law_887) ?_
        refine v_lstore (pc := 890) (lv' := [(6, true, .long x598), (5, false, .int x593), (0, false, va_rf a0), (1, false, va_rf a1), (2, false, va_rf a2), (3, false, va_rf a3), (4, false, .int a4)]) C dL_law_890 (by decide) rfl ?_
        refine v_aload_n (pc := 892) (j := 4) C dL_law_892 rfl rfl ?_
        obtain ⟨b600, eb600, hf⟩ := hf
        obtain ⟨rb600, _, kb600⟩ := aIs_eq eb600
        obtain ⟨x601, ex601, hf⟩ := hf
        refine v_call (pc := 893) (d_V (pc := 893) C (As := []) (rest := []) rb600 kb600 nt_1 q2487 yi_X2_thrown_FigureSurveyModel yk_X2_thrown rfl (by decide) (by decide) (Nat.le_trans aw_0 (by decide)) rfl (mX2_thrown C.st ex601) dL_law_893) ?_
        refine v_iload (pc := 896) (j := 1) C dL_law_896 rfl ?_
        refine v_icmp_eq (pc := 898) (tgt := 903) C dL_law_898 rfl (fun hc => ?_) (fun hc => ?_)
        · rw [if_pos hc] at hf
          refine v_iload (pc := 903) (j := 1) C dL_law_903 rfl ?_
          refine v_if_ne (pc := 905) (tgt := 919) C dL_law_905 rfl (fun hc => ?_) (fun hc => ?_)
          · rw [if_neg hc] at hf
            refine v_goto (pc := 919) (tgt := 3952) C dL_law_919 rfl ?_
            exact V.sub [2, 3, 4, 5, 6] rfl (vL_p3952 L ih hf)
          · rw [if_pos (Decidable.of_not_not hc)] at hf
            refine v_aload_n (pc := 908) (j := 5) C dL_law_908 rfl rfl ?_
            refine v_iconst (pc := 909) (v := (0 : Int32)) C dL_law_909 rfl ?_
            obtain ⟨x603, ex603, hf⟩ := hf
            refine v_laload (pc := 910) C ex603 dL_law_910 ?_
            refine v_lload (pc := 911) (j := 0) C dL_law_911 rfl ?_
            refine v_lcmp (pc := 913) C dL_law_913 ?_
            refine v_if_eq (pc := 914) (tgt := 919) C dL_law_914 rfl (fun hc => ?_) (fun hc => ?_)
            · rw [if_pos hc] at hf
              refine v_goto (pc := 919) (tgt := 3952) C dL_law_919 rfl ?_
              exact V.sub [2, 3, 4, 5, 6] rfl (vL_p3952 L ih hf)
            · rw [if_neg hc] at hf
              refine v_iconst (pc := 917) (v := (0 : Int32)) C dL_law_917 rfl ?_
              exact hf.elim
        · rw [if_neg hc] at hf
          refine v_iconst (pc := 901) (v := (0 : Int32)) C dL_law_901 rfl ?_
          exact hf.elim
      rw [if_neg j8] at hf
      by_cases j9 : (x2 &&& (63 : Int32)) = (9 : Int32)
      · rw [if_pos j9] at hf
        rw [j9]
        refine v_tableIn (pc := 39) (off := 883) (tgt := 922) C dL_law_39 (by decide) (by decide) rfl rfl ?_
        refine v_aload_n (pc := 922) (j := 1) C dL_law_922 rfl rfl ?_
        refine v_aload_n (pc := 923) (j := 0) C dL_law_923 rfl rfl ?_
        refine v_iload (pc := 924) (j := 4) C dL_law_924 rfl ?_
        refine v_iconst (pc := 926) (v := (1 : Int32)) C dL_law_926 rfl ?_
        refine v_iadd (pc := 927) C dL_law_927 ?_
        obtain ⟨x580, ex580, hf⟩ := hf
        refine v_iaload (pc := 928) C ex580 dL_law_928 ?_
        refine v_aload_n (pc := 929) (j := 3) C dL_law_929 rfl rfl ?_
        obtain ⟨x581, h582, ex581, ox581, hf⟩ := hf
        refine v_wcall (pc := 930) (As := [va_rf a1, .int x580, va_rf a3]) (rest := []) C L.2.2.2.2.2.1 q1879 q1880 q1881 q73 ⟨by decide +kernel, by decide +kernel⟩ (n9 := 3) (by decide +kernel) rfl (by decide) (by decide) (Nat.le_trans aw_0 (by decide)) rfl (mX0_foundShare C.st ex581) dL_law_930 ox581.1 (by have := L.2.1; have := ox581.2.1; omega) fun D1 h583 hs => ?_
        have L := L.step (by have := L.2.1; have := ox581.2.1; omega) hs (by have := L.2.1; have := ox581.2.2; have := L.2.2.2.2.2.2; omega)
        have hf := hf D1 h583 hs
        have C := L.1
        refine v_istore (pc := 933) (lv' := [(5, false, .int x581), (0, false, va_rf a0), (1, false, va_rf a1), (2, false, va_rf a2), (3, false, va_rf a3), (4, false, .int a4)]) C dL_law_933 (by decide) rfl ?_
        refine v_aload_n (pc := 935) (j := 3) C dL_law_935 rfl rfl ?_
        refine v_aload_n (pc := 936) (j := 1) C dL_law_936 rfl rfl ?_
        refine v_iload (pc := 937) (j := 5) C dL_law_937 rfl ?_
        refine v_iconst (pc := 939) (v := (1 : Int32)) C dL_law_939 rfl ?_
        refine v_iadd (pc := 940) C dL_law_940 ?_
        obtain ⟨x584, ex584, hf⟩ := hf
        refine v_iaload (pc := 941) C ex584 dL_law_941 ?_
        obtain ⟨b585, eb585, hf⟩ := hf
        obtain ⟨rb585, _, kb585⟩ := aIs_eq eb585
        obtain ⟨x586, h587, ex586, hf⟩ := hf
        refine v_call (pc := 942) (d_V (pc := 942) C (As := [.int x584]) (rest := []) rb585 kb585 nt_1 q2577 yi_X2_foundShare_FigureSurveyModel yk_X2_foundShare rfl (by decide) (by decide) (Nat.le_trans aw_0 (by decide)) rfl (mX2_foundShare C.st ex586) dL_law_942) ?_
        refine v_istore (pc := 945) (lv' := [(6, false, .int x586), (5, false, .int x581), (0, false, va_rf a0), (1, false, va_rf a1), (2, false, va_rf a2), (3, false, va_rf a3), (4, false, .int a4)]) C dL_law_945 (by decide) rfl ?_
        refine v_aload_n (pc := 947) (j := 4) C dL_law_947 rfl rfl ?_
        obtain ⟨b588, eb588, hf⟩ := hf
        obtain ⟨rb588, _, kb588⟩ := aIs_eq eb588
        obtain ⟨x589, ex589, hf⟩ := hf
        refine v_call (pc := 948) (d_V (pc := 948) C (As := []) (rest := []) rb588 kb588 nt_1 q2487 yi_X2_thrown_FigureSurveyModel yk_X2_thrown rfl (by decide) (by decide) (Nat.le_trans aw_0 (by decide)) rfl (mX2_thrown C.st ex589) dL_law_948) ?_
        refine v_iload (pc := 951) (j := 1) C dL_law_951 rfl ?_
        refine v_icmp_eq (pc := 953) (tgt := 958) C dL_law_953 rfl (fun hc => ?_) (fun hc => ?_)
        · rw [if_pos hc] at hf
          refine v_iload (pc := 958) (j := 1) C dL_law_958 rfl ?_
          refine v_if_ne (pc := 960) (tgt := 975) C dL_law_960 rfl (fun hc => ?_) (fun hc => ?_)
          · rw [if_neg hc] at hf
            refine v_goto (pc := 975) (tgt := 3952) C dL_law_975 rfl ?_
            exact V.sub [2, 3, 4, 5, 6] rfl (vL_p3952 L ih hf)
          · rw [if_pos (Decidable.of_not_not hc)] at hf
            refine v_aload_n (pc := 963) (j := 5) C dL_law_963 rfl rfl ?_
            refine v_iconst (pc := 964) (v := (0 : Int32)) C dL_law_964 rfl ?_
            obtain ⟨x591, ex591, hf⟩ := hf
            refine v_laload (pc := 965) C ex591 dL_law_965 ?_
            refine v_iload (pc := 966) (j := 0) C dL_law_966 rfl ?_
            refine v_i2l (pc := 968) C dL_law_968 ?_
            refine v_lcmp (pc := 969) C dL_law_969 ?_
            refine v_if_eq (pc := 970) (tgt := 975) C dL_law_970 rfl (fun hc => ?_) (fun hc => ?_)
            · rw [if_pos hc] at hf
              refine v_goto (pc := 975) (tgt := 3952) C dL_law_975 rfl ?_
              exact V.sub [2, 3, 4, 5, 6] rfl (vL_p3952 L ih hf)
            · rw [if_neg hc] at hf
              refine v_iconst (pc := 973) (v := (0 : Int32)) C dL_law_973 rfl ?_
              exact hf.elim
        · rw [if_neg hc] at hf
          refine v_iconst (pc := 956) (v := (0 : Int32)) C dL_law_956 rfl ?_
          exact hf.elim
      rw [if_neg j9] at hf
      by_cases j10 : (x2 &&& (63 : Int32)) = (10 : Int32)
      · rw [if_pos j10] at hf
        rw [j10]
        refine v_tableIn (pc := 39) (off := 939) (tgt := 978) C dL_law_39 (by decide) (by decide) rfl rfl ?_
        refine v_aload_n (pc := 978) (j := 1) C dL_law_978 rfl rfl ?_
        refine v_aload_n (pc := 979) (j := 0) C dL_law_979 rfl rfl ?_
        refine v_iload (pc := 980) (j := 4) C dL_law_980 rfl ?_
        refine v_iconst (pc := 982) (v := (1 : Int32)) C dL_law_982 rfl ?_
        refine v_iadd (pc := 983) C dL_law_983 ?_
        obtain ⟨x566, ex566, hf⟩ := hf
        refine v_iaload (pc := 984) C ex566 dL_law_984 ?_
        refine v_aload_n (pc := 985) (j := 0) C dL_law_985 rfl rfl ?_
        refine v_iload (pc := 986) (j := 4) C dL_law_986 rfl ?_
        refine v_iconst (pc := 988) (v := (2 : Int32)) C dL_law_988 rfl ?_
        refine v_iadd (pc := 989) C dL_law_989 ?_
        obtain ⟨x567, ex567, hf⟩ := hf
        refine v_iaload (pc := 990) C ex567 dL_law_990 ?_
        refine v_aload_n (pc := 991) (j := 3) C dL_law_991 rfl rfl ?_
        obtain ⟨x568, h569, ex568, ox568, hf⟩ := hf
        refine v_wcall (pc := 992) (As := [va_rf a1, .int x566, .int x567, va_rf a3]) (rest := []) C L.2.2.2.2.2.1 q1887 q1888 q1889 q73 ⟨by decide +kernel, by decide +kernel⟩ (n9 := 4) (by decide +kernel) rfl (by decide) (by decide) (Nat.le_trans aw_0 (by decide)) rfl (mX0_sharedCells C.st ex568) dL_law_992 ox568.1 (by have := L.2.1; have := ox568.2.1; omega) fun D1 h570 hs => ?_
        have L := L.step (by have := L.2.1; have := ox568.2.1; omega) hs (by have := L.2.1; have := ox568.2.2; have := L.2.2.2.2.2.2; omega)
        have hf := hf D1 h570 hs
        have C := L.1
        refine v_istore (pc := 995) (lv' := [(5, false, .int x568), (0, false, va_rf a0), (1, false, va_rf a1), (2, false, va_rf a2), (3, false, va_rf a3), (4, false, .int a4)]) C dL_law_995 (by decide) rfl ?_
        refine v_aload_n (pc := 997) (j := 3) C dL_law_997 rfl rfl ?_
        refine v_aload_n (pc := 998) (j := 1) C dL_law_998 rfl rfl ?_
        refine v_iload (pc := 999) (j := 5) C dL_law_999 rfl ?_
        refine v_iconst (pc := 1001) (v := (1 : Int32)) C dL_law_1001 rfl ?_
        refine v_iadd (pc := 1002) C dL_law_1002 ?_
        obtain ⟨x571, ex571, hf⟩ := hf
        refine v_iaload (pc := 1003) C ex571 dL_law_1003 ?_
        refine v_aload_n (pc := 1004) (j := 1) C dL_law_1004 rfl rfl ?_
        refine v_iload (pc := 1005) (j := 5) C dL_law_1005 rfl ?_
        refine v_iconst (pc := 1007) (v := (2 : Int32)) C dL_law_1007 rfl ?_
        refine v_iadd (pc := 1008) C dL_law_1008 ?_
        obtain ⟨x572, ex572, hf⟩ := hf
        refine v_iaload (pc := 1009) C ex572 dL_law_1009 ?_
        obtain ⟨b573, eb573, hf⟩ := hf
        obtain ⟨rb573, _, kb573⟩ := aIs_eq eb573
        obtain ⟨x574, h575, ex574, hf⟩ := hf
        refine v_call (pc := 1010) (d_V (pc := 1010) C (As := [.int x571, .int x572]) (rest := []) rb573 kb573 nt_1 q2582 yi_X2_sharedCells_FigureSurveyModel yk_X2_sharedCells rfl (by decide) (by decide) (Nat.le_trans aw_0 (by decide)) rfl (mX2_sharedCells C.st ex574) dL_law_1010) ?_
        refine v_istore (pc := 1013) (lv' := [(6, false, .int x574), (5, false, .int x568), (0, false, va_rf a0), (1, false, va_rf a1), (2, false, va_rf a2), (3, false, va_rf a3), (4, false, .int a4)]) C dL_law_1013 (by decide) rfl ?_
        refine v_aload_n (pc := 1015) (j := 4) C dL_law_1015 rfl rfl ?_
        obtain ⟨b576, eb576, hf⟩ := hf
        obtain ⟨rb576, _, kb576⟩ := aIs_eq eb576
        obtain ⟨x577, ex577, hf⟩ := hf
        refine v_call (pc := 1016) (d_V (pc := 1016) C (As := []) (rest := []) rb576 kb576 nt_1 q2487 yi_X2_thrown_FigureSurveyModel yk_X2_thrown rfl (by decide) (by decide) (Nat.le_trans aw_0 (by decide)) rfl (mX2_thrown C.st ex577) dL_law_1016) ?_
        refine v_iload (pc := 1019) (j := 1) C dL_law_1019 rfl ?_
        refine v_icmp_eq (pc := 1021) (tgt := 1026) C dL_law_1021 rfl (fun hc => ?_) (fun hc => ?_)
        · rw [if_pos hc] at hf
          refine v_iload (pc := 1026) (j := 1) C dL_law_1026 rfl ?_
          refine v_if_ne (pc := 1028) (tgt := 1043) C dL_law_1028 rfl (fun hc => ?_) (fun hc => ?_)
          · rw [if_neg hc] at hf
            refine v_goto (pc := 1043) (tgt := 3952) C dL_law_1043 rfl ?_
            exact V.sub [2, 3, 4, 5, 6] rfl (vL_p3952 L ih hf)
          · rw [if_pos (Decidable.of_not_not hc)] at hf
            refine v_aload_n (pc := 1031) (j := 5) C dL_law_1031 rfl rfl ?_
            refine v_iconst (pc := 1032) (v := (0 : Int32)) C dL_law_1032 rfl ?_
            obtain ⟨x579, ex579, hf⟩ := hf
            refine v_laload (pc := 1033) C ex579 dL_law_1033 ?_
            refine v_iload (pc := 1034) (j := 0) C dL_law_1034 rfl ?_
            refine v_i2l (pc := 1036) C dL_law_1036 ?_
            refine v_lcmp (pc := 1037) C dL_law_1037 ?_
            refine v_if_eq (pc := 1038) (tgt := 1043) C dL_law_1038 rfl (fun hc => ?_) (fun hc => ?_)
            · rw [if_pos hc] at hf
              refine v_goto (pc := 1043) (tgt := 3952) C dL_law_1043 rfl ?_
              exact V.sub [2, 3, 4, 5, 6] rfl (vL_p3952 L ih hf)
            · rw [if_neg hc] at hf
              refine v_iconst (pc := 1041) (v := (0 : Int32)) C dL_law_1041 rfl ?_
              exact hf.elim
        · rw [if_neg hc] at hf
          refine v_iconst (pc := 1024) (v := (0 : Int32)) C dL_law_1024 rfl ?_
          exact hf.elim
      rw [if_neg j10] at hf
      by_cases j11 : (x2 &&& (63 : Int32)) = (11 : Int32)
      · rw [if_pos j11] at hf
        rw [j11]
        refine v_tableIn (pc := 39) (off := 1007) (tgt := 1046) C dL_law_39 (by decide) (by decide) rfl rfl ?_
        refine v_aload_n (pc := 1046) (j := 1) C dL_law_1046 rfl rfl ?_
        refine v_aload_n (pc := 1047) (j := 0) C dL_law_1047 rfl rfl ?_
        refine v_iload (pc := 1048) (j := 4) C dL_law_1048 rfl ?_
        refine v_iconst (pc := 1050) (v := (1 : Int32)) C dL_law_1050 rfl ?_
        refine v_iadd (pc := 1051) C dL_law_1051 ?_
        obtain ⟨x550, ex550, hf⟩ := hf
        refine v_iaload (pc := 1052) C ex550 dL_law_1052 ?_
        refine v_aload_n (pc := 1053) (j := 0) C dL_law_1053 rfl rfl ?_
        refine v_iload (pc := 1054) (j := 4) C dL_law_1054 rfl ?_
        refine v_iconst (pc := 1056) (v := (2 : Int32)) C dL_law_1056 rfl ?_
        refine v_iadd (pc := 1057) C dL_law_1057 ?_
        obtain ⟨x551, ex551, hf⟩ := hf
        refine v_iaload (pc := 1058) C ex551 dL_law_1058 ?_
        refine v_i2l (pc := 1059) C dL_law_1059 ?_
        refine v_bipush (pc := 1060) (v := (32 : Int32)) C dL_law_1060 rfl ?_
        refine v_lshl (pc := 1062) C dL_law_1062 ?_
        refine v_aload_n (pc := 1063) (j := 0) C dL_law_1063 rfl rfl ?_
        refine v_iload (pc := 1064) (j := 4) C dL_law_1064 rfl ?_
        refine v_iconst (pc := 1066) (v := (3 : Int32)) C dL_law_1066 rfl ?_
        refine v_iadd (pc := 1067) C dL_law_1067 ?_
        obtain ⟨x552, ex552, hf⟩ := hf
        refine v_iaload (pc := 1068) C ex552 dL_law_1068 ?_
        refine v_i2l (pc := 1069) C dL_law_1069 ?_
        refine v_ldc2 (pc := 1070) (v := (4294967295 : Int64)) C q2920 dL_law_1070 ?_
        refine v_land (pc := 1073) C dL_law_1073 ?_
        refine v_lor (pc := 1074) C dL_law_1074 ?_
        refine v_aload_n (pc := 1075) (j := 3) C dL_law_1075 rfl rfl ?_
        obtain ⟨x553, h554, ex553, ox553, hf⟩ := hf
        refine v_wcall (pc := 1076) (As := [va_rf a1, .int x550, .long ((x551.toInt64 <<< ((32 : Int32).toInt64 &&& 63)) ||| (x552.toInt64 &&& (4294967295 : Int64))), va_rf a3]) (rest := []) C L.2.2.2.2.2.1 q1894 q1895 q1896 q73 ⟨by decide +kernel, by decide +kernel⟩ (n9 := 4) (by decide +kernel) rfl (by decide) (by decide) (Nat.le_trans aw_0 (by decide)) rfl (mX0_harm C.st ex553) dL_law_1076 ox553.1 (by have := L.2.1; have := ox553.2.1; omega) fun D1 h555 hs => ?_
        have L := L.step (by have := L.2.1; have := ox553.2.1; omega) hs (by have := L.2.1; have := ox553.2.2; have := L.2.2.2.2.2.2; omega)
        have hf := hf D1 h555 hs
        have C := L.1
        refine v_istore (pc := 1079) (lv' := [(5, false, .int x553), (0, false, va_rf a0), (1, false, va_rf a1), (2, false, va_rf a2), (3, false, va_rf a3), (4, false, .int a4)]) C dL_law_1079 (by decide) rfl ?_
        refine v_aload_n (pc := 1081) (j := 3) C dL_law_1081 rfl rfl ?_
        refine v_aload_n (pc := 1082) (j := 1) C dL_law_1082 rfl rfl ?_
        refine v_iload (pc := 1083) (j := 5) C dL_law_1083 rfl ?_
        refine v_iconst (pc := 1085) (v := (1 : Int32)) C dL_law_1085 rfl ?_
        refine v_iadd (pc := 1086) C dL_law_1086 ?_
        obtain ⟨x556, ex556, hf⟩ := hf
        refine v_iaload (pc := 1087) C ex556 dL_law_1087 ?_
        refine v_aload_n (pc := 1088) (j := 1) C dL_law_1088 rfl rfl ?_
        refine v_iload (pc := 1089) (j := 5) C dL_law_1089 rfl ?_
        refine v_iconst (pc := 1091) (v := (2 : Int32)) C dL_law_1091 rfl ?_
        refine v_iadd (pc := 1092) C dL_law_1092 ?_
        obtain ⟨x557, ex557, hf⟩ := hf
        refine v_iaload (pc := 1093) C ex557 dL_law_1093 ?_
        refine v_i2l (pc := 1094) C dL_law_1094 ?_
        refine v_bipush (pc := 1095) (v := (32 : Int32)) C dL_law_1095 rfl ?_
        refine v_lshl (pc := 1097) C dL_law_1097 ?_
        refine v_aload_n (pc := 1098) (j := 1) C dL_law_1098 rfl rfl ?_
        refine v_iload (pc := 1099) (j := 5) C dL_law_1099 rfl ?_
        refine v_iconst (pc := 1101) (v := (3 : Int32)) C dL_law_1101 rfl ?_
        refine v_iadd (pc := 1102) C dL_law_1102 ?_
        obtain ⟨x558, ex558, hf⟩ := hf
        refine v_iaload (pc := 1103) C ex558 dL_law_1103 ?_
        refine v_i2l (pc := 1104) C dL_law_1104 ?_
        refine v_ldc2 (pc := 1105) (v := (4294967295 : Int64)) C q2920 dL_law_1105 ?_
        refine v_land (pc := 1108) C dL_law_1108 ?_
        refine v_lor (pc := 1109) C dL_law_1109 ?_
        obtain ⟨b559, eb559, hf⟩ := hf
        obtain ⟨rb559, _, kb559⟩ := aIs_eq eb559
        obtain ⟨x560, h561, ex560, hf⟩ := hf
        refine v_call (pc := 1110) (d_V (pc := 1110) C (As := [.int x556, .long ((x557.toInt64 <<< ((32 : Int32).toInt64 &&& 63)) ||| (x558.toInt64 &&& (4294967295 : Int64)))]) (rest := []) rb559 kb559 nt_1 q2586 yi_X2_harm_FigureSurveyModel yk_X2_harm rfl (by decide) (by decide) (Nat.le_trans aw_0 (by decide)) rfl (mX2_harm C.st ex560) dL_law_1110) ?_
        refine v_istore (pc := 1113) (lv' := [(6, false, .int x560), (5, false, .int x553), (0, false, va_rf a0), (1, false, va_rf a1), (2, false, va_rf a2), (3, false, va_rf a3), (4, false, .int a4)]) C dL_law_1113 (by decide) rfl ?_
        refine v_aload_n (pc := 1115) (j := 4) C dL_law_1115 rfl rfl ?_
        obtain ⟨b562, eb562, hf⟩ := hf
        obtain ⟨rb562, _, kb562⟩ := aIs_eq eb562
        obtain ⟨x563, ex563, hf⟩ := hf
        refine v_call (pc := 1116) (d_V (pc := 1116) C (As := []) (rest := []) rb562 kb562 nt_1 q2487 yi_X2_thrown_FigureSurveyModel yk_X2_thrown rfl (by decide) (by decide) (Nat.le_trans aw_0 (by decide)) rfl (mX2_thrown C.st ex563) dL_law_1116) ?_
        refine v_iload (pc := 1119) (j := 1) C dL_law_1119 rfl ?_
        refine v_icmp_eq (pc := 1121) (tgt := 1126) C dL_law_1121 rfl (fun hc => ?_) (fun hc => ?_)
        · rw [if_pos hc] at hf
          refine v_iload (pc := 1126) (j := 1) C dL_law_1126 rfl ?_
          refine v_if_ne (pc := 1128) (tgt := 1143) C dL_law_1128 rfl (fun hc => ?_) (fun hc => ?_)
          · rw [if_neg hc] at hf
            refine v_goto (pc := 1143) (tgt := 3952) C dL_law_1143 rfl ?_
            exact V.sub [2, 3, 4, 5, 6] rfl (vL_p3952 L ih hf)
          · rw [if_pos (Decidable.of_not_not hc)] at hf
            refine v_aload_n (pc := 1131) (j := 5) C dL_law_1131 rfl rfl ?_
            refine v_iconst (pc := 1132) (v := (0 : Int32)) C dL_law_1132 rfl ?_
            obtain ⟨x565, ex565, hf⟩ := hf
            refine v_laload (pc := 1133) C ex565 dL_law_1133 ?_
            refine v_iload (pc := 1134) (j := 0) C dL_law_1134 rfl ?_
            refine v_i2l (pc := 1136) C dL_law_1136 ?_
            refine v_lcmp (pc := 1137) C dL_law_1137 ?_
            refine v_if_eq (pc := 1138) (tgt := 1143) C dL_law_1138 rfl (fun hc => ?_) (fun hc => ?_)
            · rw [if_pos hc] at hf
              refine v_goto (pc := 1143) (tgt := 3952) C dL_law_1143 rfl ?_
              exact V.sub [2, 3, 4, 5, 6] rfl (vL_p3952 L ih hf)
            · rw [if_neg hc] at hf
              refine v_iconst (pc := 1141) (v := (0 : Int32)) C dL_law_1141 rfl ?_
              exact hf.elim
        · rw [if_neg hc] at hf
          refine v_iconst (pc := 1124) (v := (0 : Int32)) C dL_law_1124 rfl ?_
          exact hf.elim
      rw [if_neg j11] at hf
      by_cases j12 : (x2 &&& (63 : Int32)) = (12 : Int32)
      · rw [if_pos j12] at hf
        rw [j12]
        refine v_tableIn (pc := 39) (off := 1107) (tgt := 1146) C dL_law_39 (by decide) (by decide) rfl rfl ?_
        refine v_aload_n (pc := 1146) (j := 1) C dL_law_1146 rfl rfl ?_
        refine v_aload_n (pc := 1147) (j := 0) C dL_law_1147 rfl rfl ?_
        refine v_iload (pc := 1148) (j := 4) C dL_law_1148 rfl ?_
        refine v_iconst (pc := 1150) (v := (1 : Int32)) C dL_law_1150 rfl ?_
        refine v_iadd (pc := 1151) C dL_law_1151 ?_
        obtain ⟨x538, ex538, hf⟩ := hf
        refine v_iaload (pc := 1152) C ex538 dL_law_1152 ?_
        refine v_aload_n (pc := 1153) (j := 3) C dL_law_1153 rfl rfl ?_
        obtain ⟨x539, h540, ex539, ox539, hf⟩ := hf
        refine v_wcall (pc := 1154) (As := [va_rf a1, .int x538, va_rf a3]) (rest := []) C L.2.2.2.2.2.1 q1902 q1903 q1904 q73 ⟨by decide +kernel, by decide +kernel⟩ (n9 := 3) (by decide +kernel) rfl (by decide) (by decide) (Nat.le_trans aw_0 (by decide)) rfl (mX0_cast C.st ex539) dL_law_1154 ox539.1 (by have := L.2.1; have := ox539.2.1; omega) fun D1 h541 hs => ?_
        have L := L.step (by have := L.2.1; have := ox539.2.1; omega) hs (by have := L.2.1; have := ox539.2.2; have := L.2.2.2.2.2.2; omega)
        have hf := hf D1 h541 hs
        have C := L.1
        refine v_istore (pc := 1157) (lv' := [(5, false, .int x539), (0, false, va_rf a0), (1, false, va_rf a1), (2, false, va_rf a2), (3, false, va_rf a3), (4, false, .int a4)]) C dL_law_1157 (by decide) rfl ?_
        refine v_aload_n (pc := 1159) (j := 3) C dL_law_1159 rfl rfl ?_
        refine v_aload_n (pc := 1160) (j := 1) C dL_law_1160 rfl rfl ?_
        refine v_iload (pc := 1161) (j := 5) C dL_law_1161 rfl ?_
        refine v_iconst (pc := 1163) (v := (1 : Int32)) C dL_law_1163 rfl ?_
        refine v_iadd (pc := 1164) C dL_law_1164 ?_
        obtain ⟨x542, ex542, hf⟩ := hf
        refine v_iaload (pc := 1165) C ex542 dL_law_1165 ?_
        obtain ⟨b543, eb543, hf⟩ := hf
        obtain ⟨rb543, _, kb543⟩ := aIs_eq eb543
        obtain ⟨x544, h545, ex544, hf⟩ := hf
        refine v_call (pc := 1166) (d_V (pc := 1166) C (As := [.int x542]) (rest := []) rb543 kb543 nt_1 q2590 yi_X2_cast_FigureSurveyModel yk_X2_cast rfl (by decide) (by decide) (Nat.le_trans aw_0 (by decide)) rfl (mX2_cast C.st ex544) dL_law_1166) ?_
        refine v_istore (pc := 1169) (lv' := [(6, false, .int x544), (5, false, .int x539), (0, false, va_rf a0), (1, false, va_rf a1), (2, false, va_rf a2), (3, false, va_rf a3), (4, false, .int a4)]) C dL_law_1169 (by decide) rfl ?_
        refine v_aload_n (pc := 1171) (j := 4) C dL_law_1171 rfl rfl ?_
        obtain ⟨b546, eb546, hf⟩ := hf
        obtain ⟨rb546, _, kb546⟩ := aIs_eq eb546
        obtain ⟨x547, ex547, hf⟩ := hf
        refine v_call (pc := 1172) (d_V (pc := 1172) C (As := []) (rest := []) rb546 kb546 nt_1 q2487 yi_X2_thrown_FigureSurveyModel yk_X2_thrown rfl (by decide) (by decide) (Nat.le_trans aw_0 (by decide)) rfl (mX2_thrown C.st ex547) dL_law_1172) ?_
        refine v_iload (pc := 1175) (j := 1) C dL_law_1175 rfl ?_
        refine v_icmp_eq (pc := 1177) (tgt := 1182) C dL_law_1177 rfl (fun hc => ?_) (fun hc => ?_)
        · rw [if_pos hc] at hf
          refine v_iload (pc := 1182) (j := 1) C dL_law_1182 rfl ?_
          refine v_if_ne (pc := 1184) (tgt := 1199) C dL_law_1184 rfl (fun hc => ?_) (fun hc => ?_)
          · rw [if_neg hc] at hf
            refine v_goto (pc := 1199) (tgt := 3952) C dL_law_1199 rfl ?_
            exact V.sub [2, 3, 4, 5, 6] rfl (vL_p3952 L ih hf)
          · rw [if_pos (Decidable.of_not_not hc)] at hf
            refine v_aload_n (pc := 1187) (j := 5) C dL_law_1187 rfl rfl ?_
            refine v_iconst (pc := 1188) (v := (0 : Int32)) C dL_law_1188 rfl ?_
            obtain ⟨x549, ex549, hf⟩ := hf
            refine v_laload (pc := 1189) C ex549 dL_law_1189 ?_
            refine v_iload (pc := 1190) (j := 0) C dL_law_1190 rfl ?_
            refine v_i2l (pc := 1192) C dL_law_1192 ?_
            refine v_lcmp (pc := 1193) C dL_law_1193 ?_
            refine v_if_eq (pc := 1194) (tgt := 1199) C dL_law_1194 rfl (fun hc => ?_) (fun hc => ?_)
            · rw [if_pos hc] at hf
              refine v_goto (pc := 1199) (tgt := 3952) C dL_law_1199 rfl ?_
              exact V.sub [2, 3, 4, 5, 6] rfl (vL_p3952 L ih hf)
            · rw [if_neg hc] at hf
              refine v_iconst (pc := 1197) (v := (0 : Int32)) C dL_law_1197 rfl ?_
              exact hf.elim
        · rw [if_neg hc] at hf
          refine v_iconst (pc := 1180) (v := (0 : Int32)) C dL_law_1180 rfl ?_
          exact hf.elim
      rw [if_neg j12] at hf
      by_cases j13 : (x2 &&& (63 : Int32)) = (13 : Int32)
      · rw [if_pos j13] at hf
        rw [j13]
        refine v_tableIn (pc := 39) (off := 1163) (tgt := 1202) C dL_law_39 (by decide) (by decide) rfl rfl ?_
        refine v_aload_n (pc := 1202) (j := 1) C dL_law_1202 rfl rfl ?_
        refine v_aload_n (pc := 1203) (j := 0) C dL_law_1203 rfl rfl ?_
        refine v_iload (pc := 1204) (j := 4) C dL_law_1204 rfl ?_
        refine v_iconst (pc := 1206) (v := (1 : Int32)) C dL_law_1206 rfl ?_
        refine v_iadd (pc := 1207) C dL_law_1207 ?_
        obtain ⟨x520, ex520, hf⟩ := hf
        refine v_iaload (pc := 1208) C ex520 dL_law_1208 ?_
        refine v_aload_n (pc := 1209) (j := 0) C dL_law_1209 rfl rfl ?_
        refine v_iload (pc := 1210) (j := 4) C dL_law_1210 rfl ?_
        refine v_iconst (pc := 1212) (v := (2 : Int32)) C dL_law_1212 rfl ?_
        refine v_iadd (pc := 1213) C dL_law_1213 ?_
        obtain ⟨x521, ex521, hf⟩ := hf
        refine v_iaload (pc := 1214) C ex521 dL_law_1214 ?_
        refine v_aload_n (pc := 1215) (j := 0) C dL_law_1215 rfl rfl ?_
        refine v_iload (pc := 1216) (j := 4) C dL_law_1216 rfl ?_
        refine v_iconst (pc := 1218) (v := (3 : Int32)) C dL_law_1218 rfl ?_
        refine v_iadd (pc := 1219) C dL_law_1219 ?_
        obtain ⟨x522, ex522, hf⟩ := hf
        refine v_iaload (pc := 1220) C ex522 dL_law_1220 ?_
        refine v_i2l (pc := 1221) C dL_law_1221 ?_
        refine v_bipush (pc := 1222) (v := (32 : Int32)) C dL_law_1222 rfl ?_
        refine v_lshl (pc := 1224) C dL_law_1224 ?_
        refine v_aload_n (pc := 1225) (j := 0) C dL_law_1225 rfl rfl ?_
        refine v_iload (pc := 1226) (j := 4) C dL_law_1226 rfl ?_
        refine v_iconst (pc := 1228) (v := (4 : Int32)) C dL_law_1228 rfl ?_
        refine v_iadd (pc := 1229) C dL_law_1229 ?_
        obtain ⟨x523, ex523, hf⟩ := hf
        refine v_iaload (pc := 1230) C ex523 dL_law_1230 ?_
        refine v_i2l (pc := 1231) C dL_law_1231 ?_
        refine v_ldc2 (pc := 1232) (v := (4294967295 : Int64)) C q2920 dL_law_1232 ?_
        refine v_land (pc := 1235) C dL_law_1235 ?_
        refine v_lor (pc := 1236) C dL_law_1236 ?_
        refine v_aload_n (pc := 1237) (j := 3) C dL_law_1237 rfl rfl ?_
        obtain ⟨x524, h525, ex524, ox524, hf⟩ := hf
        refine v_wcall (pc := 1238) (As := [va_rf a1, .int x520, .int x521, .long ((x522.toInt64 <<< ((32 : Int32).toInt64 &&& 63)) ||| (x523.toInt64 &&& (4294967295 : Int64))), va_rf a3]) (rest := []) C L.2.2.2.2.2.1 q1909 q1910 q1911 q73 ⟨by decide +kernel, by decide +kernel⟩ (n9 := 5) (by decide +kernel) rfl (by decide) (by decide) (Nat.le_trans aw_0 (by decide)) rfl (mX0_trace C.st ex524) dL_law_1238 ox524.1 (by have := L.2.1; have := ox524.2.1; omega) fun D1 h526 hs => ?_
        have L := L.step (by have := L.2.1; have := ox524.2.1; omega) hs (by have := L.2.1; have := ox524.2.2; have := L.2.2.2.2.2.2; omega)
        have hf := hf D1 h526 hs
        have C := L.1
        refine v_istore (pc := 1241) (lv' := [(5, false, .int x524), (0, false, va_rf a0), (1, false, va_rf a1), (2, false, va_rf a2), (3, false, va_rf a3), (4, false, .int a4)]) C dL_law_1241 (by decide) rfl ?_
        refine v_aload_n (pc := 1243) (j := 3) C dL_law_1243 rfl rfl ?_
        refine v_aload_n (pc := 1244) (j := 1) C dL_law_1244 rfl rfl ?_
        refine v_iload (pc := 1245) (j := 5) C dL_law_1245 rfl ?_
        refine v_iconst (pc := 1247) (v := (1 : Int32)) C dL_law_1247 rfl ?_
        refine v_iadd (pc := 1248) C dL_law_1248 ?_
        obtain ⟨x527, ex527, hf⟩ := hf
        refine v_iaload (pc := 1249) C ex527 dL_law_1249 ?_
        refine v_aload_n (pc := 1250) (j := 1) C dL_law_1250 rfl rfl ?_
        refine v_iload (pc := 1251) (j := 5) C dL_law_1251 rfl ?_
        refine v_iconst (pc := 1253) (v := (2 : Int32)) C dL_law_1253 rfl ?_
        refine v_iadd (pc := 1254) C dL_law_1254 ?_
        obtain ⟨x528, ex528, hf⟩ := hf
        refine v_iaload (pc := 1255) C ex528 dL_law_1255 ?_
        refine v_aload_n (pc := 1256) (j := 1) C dL_law_1256 rfl rfl ?_
        refine v_iload (pc := 1257) (j := 5) C dL_law_1257 rfl ?_
        refine v_iconst (pc := 1259) (v := (3 : Int32)) C dL_law_1259 rfl ?_
        refine v_iadd (pc := 1260) C dL_law_1260 ?_
        obtain ⟨x529, ex529, hf⟩ := hf
        refine v_iaload (pc := 1261) C ex529 dL_law_1261 ?_
        refine v_i2l (pc := 1262) C dL_law_1262 ?_
        refine v_bipush (pc := 1263) (v := (32 : Int32)) C dL_law_1263 rfl ?_
        refine v_lshl (pc := 1265) C dL_law_1265 ?_
        refine v_aload_n (pc := 1266) (j := 1) C dL_law_1266 rfl rfl ?_
        refine v_iload (pc := 1267) (j := 5) C dL_law_1267 rfl ?_
        refine v_iconst (pc := 1269) (v := (4 : Int32)) C dL_law_1269 rfl ?_
        refine v_iadd (pc := 1270) C dL_law_1270 ?_
        obtain ⟨x530, ex530, hf⟩ := hf
        refine v_iaload (pc := 1271) C ex530 dL_law_1271 ?_
        refine v_i2l (pc := 1272) C dL_law_1272 ?_
        refine v_ldc2 (pc := 1273) (v := (4294967295 : Int64)) C q2920 dL_law_1273 ?_
        refine v_land (pc := 1276) C dL_law_1276 ?_
        refine v_lor (pc := 1277) C dL_law_1277 ?_
        obtain ⟨b531, eb531, hf⟩ := hf
        obtain ⟨rb531, _, kb531⟩ := aIs_eq eb531
        obtain ⟨x532, h533, ex532, hf⟩ := hf
        refine v_call (pc := 1278) (d_V (pc := 1278) C (As := [.int x527, .int x528, .long ((x529.toInt64 <<< ((32 : Int32).toInt64 &&& 63)) ||| (x530.toInt64 &&& (4294967295 : Int64)))]) (rest := []) rb531 kb531 nt_1 q2594 yi_X2_trace_FigureSurveyModel yk_X2_trace rfl (by decide) (by decide) (Nat.le_trans aw_0 (by decide)) rfl (mX2_trace C.st ex532) dL_law_1278) ?_
        refine v_istore (pc := 1281) (lv' := [(6, false, .int x532), (5, false, .int x524), (0, false, va_rf a0), (1, false, va_rf a1), (2, false, va_rf a2), (3, false, va_rf a3), (4, false, .int a4)]) C dL_law_1281 (by decide) rfl ?_
        refine v_aload_n (pc := 1283) (j := 4) C dL_law_1283 rfl rfl ?_
        obtain ⟨b534, eb534, hf⟩ := hf
        obtain ⟨rb534, _, kb534⟩ := aIs_eq eb534
        obtain ⟨x535, ex535, hf⟩ := hf
        refine v_call (pc := 1284) (d_V (pc := 1284) C (As := []) (rest := []) rb534 kb534 nt_1 q2487 yi_X2_thrown_FigureSurveyModel yk_X2_thrown rfl (by decide) (by decide) (Nat.le_trans aw_0 (by decide)) rfl (mX2_thrown C.st ex535) dL_law_1284) ?_
        refine v_iload (pc := 1287) (j := 1) C dL_law_1287 rfl ?_
        refine v_icmp_eq (pc := 1289) (tgt := 1294) C dL_law_1289 rfl (fun hc => ?_) (fun hc => ?_)
        · rw [if_pos hc] at hf
          refine v_iload (pc := 1294) (j := 1) C dL_law_1294 rfl ?_
          refine v_if_ne (pc := 1296) (tgt := 1311) C dL_law_1296 rfl (fun hc => ?_) (fun hc => ?_)
          · rw [if_neg hc] at hf
            refine v_goto (pc := 1311) (tgt := 3952) C dL_law_1311 rfl ?_
            exact V.sub [2, 3, 4, 5, 6] rfl (vL_p3952 L ih hf)
          · rw [if_pos (Decidable.of_not_not hc)] at hf
            refine v_aload_n (pc := 1299) (j := 5) C dL_law_1299 rfl rfl ?_
            refine v_iconst (pc := 1300) (v := (0 : Int32)) C dL_law_1300 rfl ?_
            obtain ⟨x537, ex537, hf⟩ := hf
            refine v_laload (pc := 1301) C ex537 dL_law_1301 ?_
            refine v_iload (pc := 1302) (j := 0) C dL_law_1302 rfl ?_
            refine v_i2l (pc := 1304) C dL_law_1304 ?_
            refine v_lcmp (pc := 1305) C dL_law_1305 ?_
            refine v_if_eq (pc := 1306) (tgt := 1311) C dL_law_1306 rfl (fun hc => ?_) (fun hc => ?_)
            · rw [if_pos hc] at hf
              refine v_goto (pc := 1311) (tgt := 3952) C dL_law_1311 rfl ?_
              exact V.sub [2, 3, 4, 5, 6] rfl (vL_p3952 L ih hf)
            · rw [if_neg hc] at hf
              refine v_iconst (pc := 1309) (v := (0 : Int32)) C dL_law_1309 rfl ?_
              exact hf.elim
        · rw [if_neg hc] at hf
          refine v_iconst (pc := 1292) (v := (0 : Int32)) C dL_law_1292 rfl ?_
          exact hf.elim
      rw [if_neg j13] at hf
      by_cases j14 : (x2 &&& (63 : Int32)) = (14 : Int32)
      · rw [if_pos j14] at hf
        rw [j14]
        refine v_tableIn (pc := 39) (off := 1275) (tgt := 1314) C dL_law_39 (by decide) (by decide) rfl rfl ?_
        refine v_aload_n (pc := 1314) (j := 1) C dL_law_1314 rfl rfl ?_
        refine v_aload_n (pc := 1315) (j := 0) C dL_law_1315 rfl rfl ?_
        refine v_iload (pc := 1316) (j := 4) C dL_law_1316 rfl ?_
        refine v_iconst (pc := 1318) (v := (1 : Int32)) C dL_law_1318 rfl ?_
        refine v_iadd (pc := 1319) C dL_law_1319 ?_
        obtain ⟨x508, ex508, hf⟩ := hf
        refine v_iaload (pc := 1320) C ex508 dL_law_1320 ?_
        refine v_aload_n (pc := 1321) (j := 3) C dL_law_1321 rfl rfl ?_
        obtain ⟨x509, h510, ex509, ox509, hf⟩ := hf
        refine v_wcall (pc := 1322) (As := [va_rf a1, .int x508, va_rf a3]) (rest := []) C L.2.2.2.2.2.1 q1932 q1933 q1934 q73 ⟨by decide +kernel, by decide +kernel⟩ (n9 := 3) (by decide +kernel) rfl (by decide) (by decide) (Nat.le_trans aw_0 (by decide)) rfl (mX0_shiftOf C.st ex509) dL_law_1322 ox509.1 (by have := L.2.1; have := ox509.2.1; omega) fun D1 h511 hs => ?_
        have L := L.step (by have := L.2.1; have := ox509.2.1; omega) hs (by have := L.2.1; have := ox509.2.2; have := L.2.2.2.2.2.2; omega)
        have hf := hf D1 h511 hs
        have C := L.1
        refine v_istore (pc := 1325) (lv' := [(5, false, .int x509), (0, false, va_rf a0), (1, false, va_rf a1), (2, false, va_rf a2), (3, false, va_rf a3), (4, false, .int a4)]) C dL_law_1325 (by decide) rfl ?_
        refine v_aload_n (pc := 1327) (j := 3) C dL_law_1327 rfl rfl ?_
        refine v_aload_n (pc := 1328) (j := 1) C dL_law_1328 rfl rfl ?_
        refine v_iload (pc := 1329) (j := 5) C dL_law_1329 rfl ?_
        refine v_iconst (pc := 1331) (v := (1 : Int32)) C dL_law_1331 rfl ?_
        refine v_iadd (pc := 1332) C dL_law_1332 ?_
        obtain ⟨x512, ex512, hf⟩ := hf
        refine v_iaload (pc := 1333) C ex512 dL_law_1333 ?_
        obtain ⟨b513, eb513, hf⟩ := hf
        obtain ⟨rb513, _, kb513⟩ := aIs_eq eb513
        obtain ⟨x514, h515, ex514, hf⟩ := hf
        refine v_call (pc := 1334) (d_V (pc := 1334) C (As := [.int x512]) (rest := []) rb513 kb513 nt_1 q2598 yi_X2_shiftOf_FigureSurveyModel yk_X2_shiftOf rfl (by decide) (by decide) (Nat.le_trans aw_0 (by decide)) rfl (mX2_shiftOf C.st ex514) dL_law_1334) ?_
        refine v_istore (pc := 1337) (lv' := [(6, false, .int x514), (5, false, .int x509), (0, false, va_rf a0), (1, false, va_rf a1), (2, false, va_rf a2), (3, false, va_rf a3), (4, false, .int a4)]) C dL_law_1337 (by decide) rfl ?_
        refine v_aload_n (pc := 1339) (j := 4) C dL_law_1339 rfl rfl ?_
        obtain ⟨b516, eb516, hf⟩ := hf
        obtain ⟨rb516, _, kb516⟩ := aIs_eq eb516
        obtain ⟨x517, ex517, hf⟩ := hf
        refine v_call (pc := 1340) (d_V (pc := 1340) C (As := []) (rest := []) rb516 kb516 nt_1 q2487 yi_X2_thrown_FigureSurveyModel yk_X2_thrown rfl (by decide) (by decide) (Nat.le_trans aw_0 (by decide)) rfl (mX2_thrown C.st ex517) dL_law_1340) ?_
        refine v_iload (pc := 1343) (j := 1) C dL_law_1343 rfl ?_
        refine v_icmp_eq (pc := 1345) (tgt := 1350) C dL_law_1345 rfl (fun hc => ?_) (fun hc => ?_)
        · rw [if_pos hc] at hf
          refine v_iload (pc := 1350) (j := 1) C dL_law_1350 rfl ?_
          refine v_if_ne (pc := 1352) (tgt := 1367) C dL_law_1352 rfl (fun hc => ?_) (fun hc => ?_)
          · rw [if_neg hc] at hf
            refine v_goto (pc := 1367) (tgt := 3952) C dL_law_1367 rfl ?_
            exact V.sub [2, 3, 4, 5, 6] rfl (vL_p3952 L ih hf)
          · rw [if_pos (Decidable.of_not_not hc)] at hf
            refine v_aload_n (pc := 1355) (j := 5) C dL_law_1355 rfl rfl ?_
            refine v_iconst (pc := 1356) (v := (0 : Int32)) C dL_law_1356 rfl ?_
            obtain ⟨x519, ex519, hf⟩ := hf
            refine v_laload (pc := 1357) C ex519 dL_law_1357 ?_
            refine v_iload (pc := 1358) (j := 0) C dL_law_1358 rfl ?_
            refine v_i2l (pc := 1360) C dL_law_1360 ?_
            refine v_lcmp (pc := 1361) C dL_law_1361 ?_
            refine v_if_eq (pc := 1362) (tgt := 1367) C dL_law_1362 rfl (fun hc => ?_) (fun hc => ?_)
            · rw [if_pos hc] at hf
              refine v_goto (pc := 1367) (tgt := 3952) C dL_law_1367 rfl ?_
              exact V.sub [2, 3, 4, 5, 6] rfl (vL_p3952 L ih hf)
            · rw [if_neg hc] at hf
              refine v_iconst (pc := 1365) (v := (0 : Int32)) C dL_law_1365 rfl ?_
              exact hf.elim
        · rw [if_neg hc] at hf
          refine v_iconst (pc := 1348) (v := (0 : Int32)) C dL_law_1348 rfl ?_
          exact hf.elim
      rw [if_neg j14] at hf
      by_cases j15 : (x2 &&& (63 : Int32)) = (15 : Int32)
      · rw [if_pos j15] at hf
        rw [j15]
        refine v_tableIn (pc := 39) (off := 1331) (tgt := 1370) C dL_law_39 (by decide) (by decide) rfl rfl ?_
        refine v_aload_n (pc := 1370) (j := 1) C dL_law_1370 rfl rfl ?_
        refine v_aload_n (pc := 1371) (j := 0) C dL_law_1371 rfl rfl ?_
        refine v_iload (pc := 1372) (j := 4) C dL_law_1372 rfl ?_
        refine v_iconst (pc := 1374) (v := (1 : Int32)) C dL_law_1374 rfl ?_
        refine v_iadd (pc := 1375) C dL_law_1375 ?_
        obtain ⟨x496, ex496, hf⟩ := hf
        refine v_iaload (pc := 1376) C ex496 dL_law_1376 ?_
        refine v_aload_n (pc := 1377) (j := 3) C dL_law_1377 rfl rfl ?_
        obtain ⟨x497, h498, ex497, ox497, hf⟩ := hf
        refine v_wcall (pc := 1378) (As := [va_rf a1, .int x496, va_rf a3]) (rest := []) C L.2.2.2.2.2.1 q1944 q1945 q1946 q73 ⟨by decide +kernel, by decide +kernel⟩ (n9 := 3) (by decide +kernel) rfl (by decide) (by decide) (Nat.le_trans aw_0 (by decide)) rfl (mX0_scoreOf C.st ex497) dL_law_1378 ox497.1 (by have := L.2.1; have := ox497.2.1; omega) fun D1 h499 hs => ?_
        have L := L.step (by have := L.2.1; have := ox497.2.1; omega) hs (by have := L.2.1; have := ox497.2.2; have := L.2.2.2.2.2.2; omega)
        have hf := hf D1 h499 hs
        have C := L.1
        refine v_istore (pc := 1381) (lv' := [(5, false, .int x497), (0, false, va_rf a0), (1, false, va_rf a1), (2, false, va_rf a2), (3, false, va_rf a3), (4, false, .int a4)]) C dL_law_1381 (by decide) rfl ?_
        refine v_aload_n (pc := 1383) (j := 3) C dL_law_1383 rfl rfl ?_
        refine v_aload_n (pc := 1384) (j := 1) C dL_law_1384 rfl rfl ?_
        refine v_iload (pc := 1385) (j := 5) C dL_law_1385 rfl ?_
        refine v_iconst (pc := 1387) (v := (1 : Int32)) C dL_law_1387 rfl ?_
        refine v_iadd (pc := 1388) C dL_law_1388 ?_
        obtain ⟨x500, ex500, hf⟩ := hf
        refine v_iaload (pc := 1389) C ex500 dL_law_1389 ?_
        obtain ⟨b501, eb501, hf⟩ := hf
        obtain ⟨rb501, _, kb501⟩ := aIs_eq eb501
        obtain ⟨x502, h503, ex502, hf⟩ := hf
        refine v_call (pc := 1390) (d_V (pc := 1390) C (As := [.int x500]) (rest := []) rb501 kb501 nt_1 q2613 yi_X2_scoreOf_FigureSurveyModel yk_X2_scoreOf rfl (by decide) (by decide) (Nat.le_trans aw_0 (by decide)) rfl (mX2_scoreOf C.st ex502) dL_law_1390) ?_
        refine v_istore (pc := 1393) (lv' := [(6, false, .int x502), (5, false, .int x497), (0, false, va_rf a0), (1, false, va_rf a1), (2, false, va_rf a2), (3, false, va_rf a3), (4, false, .int a4)]) C dL_law_1393 (by decide) rfl ?_
        refine v_aload_n (pc := 1395) (j := 4) C dL_law_1395 rfl rfl ?_
        obtain ⟨b504, eb504, hf⟩ := hf
        obtain ⟨rb504, _, kb504⟩ := aIs_eq eb504
        obtain ⟨x505, ex505, hf⟩ := hf
        refine v_call (pc := 1396) (d_V (pc := 1396) C (As := []) (rest := []) rb504 kb504 nt_1 q2487 yi_X2_thrown_FigureSurveyModel yk_X2_thrown rfl (by decide) (by decide) (Nat.le_trans aw_0 (by decide)) rfl (mX2_thrown C.st ex505) dL_law_1396) ?_
        refine v_iload (pc := 1399) (j := 1) C dL_law_1399 rfl ?_
        refine v_icmp_eq (pc := 1401) (tgt := 1406) C dL_law_1401 rfl (fun hc => ?_) (fun hc => ?_)
        · rw [if_pos hc] at hf
          refine v_iload (pc := 1406) (j := 1) C dL_law_1406 rfl ?_
          refine v_if_ne (pc := 1408) (tgt := 1423) C dL_law_1408 rfl (fun hc => ?_) (fun hc => ?_)
          · rw [if_neg hc] at hf
            refine v_goto (pc := 1423) (tgt := 3952) C dL_law_1423 rfl ?_
            exact V.sub [2, 3, 4, 5, 6] rfl (vL_p3952 L ih hf)
          · rw [if_pos (Decidable.of_not_not hc)] at hf
            refine v_aload_n (pc := 1411) (j := 5) C dL_law_1411 rfl rfl ?_
            refine v_iconst (pc := 1412) (v := (0 : Int32)) C dL_law_1412 rfl ?_
            obtain ⟨x507, ex507, hf⟩ := hf
            refine v_laload (pc := 1413) C ex507 dL_law_1413 ?_
            refine v_iload (pc := 1414) (j := 0) C dL_law_1414 rfl ?_
            refine v_i2l (pc := 1416) C dL_law_1416 ?_
            refine v_lcmp (pc := 1417) C dL_law_1417 ?_
            refine v_if_eq (pc := 1418) (tgt := 1423) C dL_law_1418 rfl (fun hc => ?_) (fun hc => ?_)
            · rw [if_pos hc] at hf
              refine v_goto (pc := 1423) (tgt := 3952) C dL_law_1423 rfl ?_
              exact V.sub [2, 3, 4, 5, 6] rfl (vL_p3952 L ih hf)
            · rw [if_neg hc] at hf
              refine v_iconst (pc := 1421) (v := (0 : Int32)) C dL_law_1421 rfl ?_
              exact hf.elim
        · rw [if_neg hc] at hf
          refine v_iconst (pc := 1404) (v := (0 : Int32)) C dL_law_1404 rfl ?_
          exact hf.elim
      rw [if_neg j15] at hf
      by_cases j16 : (x2 &&& (63 : Int32)) = (16 : Int32)
      · rw [if_pos j16] at hf
        rw [j16]
        refine v_tableIn (pc := 39) (off := 1387) (tgt := 1426) C dL_law_39 (by decide) (by decide) rfl rfl ?_
        refine v_aload_n (pc := 1426) (j := 1) C dL_law_1426 rfl rfl ?_
        refine v_aload_n (pc := 1427) (j := 0) C dL_law_1427 rfl rfl ?_
        refine v_iload (pc := 1428) (j := 4) C dL_law_1428 rfl ?_
        refine v_iconst (pc := 1430) (v := (1 : Int32)) C dL_law_1430 rfl ?_
        refine v_iadd (pc := 1431) C dL_law_1431 ?_
        obtain ⟨x484, ex484, hf⟩ := hf
        refine v_iaload (pc := 1432) C ex484 dL_law_1432 ?_
        refine v_aload_n (pc := 1433) (j := 3) C dL_law_1433 rfl rfl ?_
        obtain ⟨x485, h486, ex485, ox485, hf⟩ := hf
        refine v_wcall (pc := 1434) (As := [va_rf a1, .int x484, va_rf a3]) (rest := []) C L.2.2.2.2.2.1 q1952 q1953 q1954 q73 ⟨by decide +kernel, by decide +kernel⟩ (n9 := 3) (by decide +kernel) rfl (by decide) (by decide) (Nat.le_trans aw_0 (by decide)) rfl (mX0_handScore C.st ex485) dL_law_1434 ox485.1 (by have := L.2.1; have := ox485.2.1; omega) fun D1 h487 hs => ?_
        have L := L.step (by have := L.2.1; have := ox485.2.1; omega) hs (by have := L.2.1; have := ox485.2.2; have := L.2.2.2.2.2.2; omega)
        have hf := hf D1 h487 hs
        have C := L.1
        refine v_istore (pc := 1437) (lv' := [(5, false, .int x485), (0, false, va_rf a0), (1, false, va_rf a1), (2, false, va_rf a2), (3, false, va_rf a3), (4, false, .int a4)]) C dL_law_1437 (by decide) rfl ?_
        refine v_aload_n (pc := 1439) (j := 3) C dL_law_1439 rfl rfl ?_
        refine v_aload_n (pc := 1440) (j := 1) C dL_law_1440 rfl rfl ?_
        refine v_iload (pc := 1441) (j := 5) C dL_law_1441 rfl ?_
        refine v_iconst (pc := 1443) (v := (1 : Int32)) C dL_law_1443 rfl ?_
        refine v_iadd (pc := 1444) C dL_law_1444 ?_
        obtain ⟨x488, ex488, hf⟩ := hf
        refine v_iaload (pc := 1445) C ex488 dL_law_1445 ?_
        obtain ⟨b489, eb489, hf⟩ := hf
        obtain ⟨rb489, _, kb489⟩ := aIs_eq eb489
        obtain ⟨x490, h491, ex490, hf⟩ := hf
        refine v_call (pc := 1446) (d_V (pc := 1446) C (As := [.int x488]) (rest := []) rb489 kb489 nt_1 q2621 yi_X2_handScore_FigureSurveyModel yk_X2_handScore rfl (by decide) (by decide) (Nat.le_trans aw_0 (by decide)) rfl (mX2_handScore C.st ex490) dL_law_1446) ?_
        refine v_istore (pc := 1449) (lv' := [(6, false, .int x490), (5, false, .int x485), (0, false, va_rf a0), (1, false, va_rf a1), (2, false, va_rf a2), (3, false, va_rf a3), (4, false, .int a4)]) C dL_law_1449 (by decide) rfl ?_
        refine v_aload_n (pc := 1451) (j := 4) C dL_law_1451 rfl rfl ?_
        obtain ⟨b492, eb492, hf⟩ := hf
        obtain ⟨rb492, _, kb492⟩ := aIs_eq eb492
        obtain ⟨x493, ex493, hf⟩ := hf
        refine v_call (pc := 1452) (d_V (pc := 1452) C (As := []) (rest := []) rb492 kb492 nt_1 q2487 yi_X2_thrown_FigureSurveyModel yk_X2_thrown rfl (by decide) (by decide) (Nat.le_trans aw_0 (by decide)) rfl (mX2_thrown C.st ex493) dL_law_1452) ?_
        refine v_iload (pc := 1455) (j := 1) C dL_law_1455 rfl ?_
        refine v_icmp_eq (pc := 1457) (tgt := 1462) C dL_law_1457 rfl (fun hc => ?_) (fun hc => ?_)
        · rw [if_pos hc] at hf
          refine v_iload (pc := 1462) (j := 1) C dL_law_1462 rfl ?_
          refine v_if_ne (pc := 1464) (tgt := 1479) C dL_law_1464 rfl (fun hc => ?_) (fun hc => ?_)
          · rw [if_neg hc] at hf
            refine v_goto (pc := 1479) (tgt := 3952) C dL_law_1479 rfl ?_
            exact V.sub [2, 3, 4, 5, 6] rfl (vL_p3952 L ih hf)
          · rw [if_pos (Decidable.of_not_not hc)] at hf
            refine v_aload_n (pc := 1467) (j := 5) C dL_law_1467 rfl rfl ?_
            refine v_iconst (pc := 1468) (v := (0 : Int32)) C dL_law_1468 rfl ?_
            obtain ⟨x495, ex495, hf⟩ := hf
            refine v_laload (pc := 1469) C ex495 dL_law_1469 ?_
            refine v_iload (pc := 1470) (j := 0) C dL_law_1470 rfl ?_
            refine v_i2l (pc := 1472) C dL_law_1472 ?_
            refine v_lcmp (pc := 1473) C dL_law_1473 ?_
            refine v_if_eq (pc := 1474) (tgt := 1479) C dL_law_1474 rfl (fun hc => ?_) (fun hc => ?_)
            · rw [if_pos hc] at hf
              refine v_goto (pc := 1479) (tgt := 3952) C dL_law_1479 rfl ?_
              exact V.sub [2, 3, 4, 5, 6] rfl (vL_p3952 L ih hf)
            · rw [if_neg hc] at hf
              refine v_iconst (pc := 1477) (v := (0 : Int32)) C dL_law_1477 rfl ?_
              exact hf.elim
        · rw [if_neg hc] at hf
          refine v_iconst (pc := 1460) (v := (0 : Int32)) C dL_law_1460 rfl ?_
          exact hf.elim
      rw [if_neg j16] at hf
      by_cases j17 : (x2 &&& (63 : Int32)) = (17 : Int32)
      · rw [if_pos j17] at hf
        rw [j17]
        refine v_tableIn (pc := 39) (off := 1443) (tgt := 1482) C dL_law_39 (by decide) (by decide) rfl rfl ?_
        refine v_aload_n (pc := 1482) (j := 1) C dL_law_1482 rfl rfl ?_
        refine v_aload_n (pc := 1483) (j := 0) C dL_law_1483 rfl rfl ?_
        refine v_iload (pc := 1484) (j := 4) C dL_law_1484 rfl ?_
        refine v_iconst (pc := 1486) (v := (1 : Int32)) C dL_law_1486 rfl ?_
        refine v_iadd (pc := 1487) C dL_law_1487 ?_
        obtain ⟨x472, ex472, hf⟩ := hf
        refine v_iaload (pc := 1488) C ex472 dL_law_1488 ?_
        refine v_aload_n (pc := 1489) (j := 3) C dL_law_1489 rfl rfl ?_
        obtain ⟨x473, h474, ex473, ox473, hf⟩ := hf
        refine v_wcall (pc := 1490) (As := [va_rf a1, .int x472, va_rf a3]) (rest := []) C L.2.2.2.2.2.1 q1959 q1960 q1961 q73 ⟨by decide +kernel, by decide +kernel⟩ (n9 := 3) (by decide +kernel) rfl (by decide) (by decide) (Nat.le_trans aw_0 (by decide)) rfl (mX0_consensus C.st ex473) dL_law_1490 ox473.1 (by have := L.2.1; have := ox473.2.1; omega) fun D1 h475 hs => ?_
        have L := L.step (by have := L.2.1; have := ox473.2.1; omega) hs (by have := L.2.1; have := ox473.2.2; have := L.2.2.2.2.2.2; omega)
        have hf := hf D1 h475 hs
        have C := L.1
        refine v_istore (pc := 1493) (lv' := [(5, false, .int x473), (0, false, va_rf a0), (1, false, va_rf a1), (2, false, va_rf a2), (3, false, va_rf a3), (4, false, .int a4)]) C dL_law_1493 (by decide) rfl ?_
        refine v_aload_n (pc := 1495) (j := 3) C dL_law_1495 rfl rfl ?_
        refine v_aload_n (pc := 1496) (j := 1) C dL_law_1496 rfl rfl ?_
        refine v_iload (pc := 1497) (j := 5) C dL_law_1497 rfl ?_
        refine v_iconst (pc := 1499) (v := (1 : Int32)) C dL_law_1499 rfl ?_
        refine v_iadd (pc := 1500) C dL_law_1500 ?_
        obtain ⟨x476, ex476, hf⟩ := hf
        refine v_iaload (pc := 1501) C ex476 dL_law_1501 ?_
        obtain ⟨b477, eb477, hf⟩ := hf
        obtain ⟨rb477, _, kb477⟩ := aIs_eq eb477
        obtain ⟨x478, h479, ex478, hf⟩ := hf
        refine v_call (pc := 1502) (d_V (pc := 1502) C (As := [.int x476]) (rest := []) rb477 kb477 nt_1 q2625 yi_X2_consensus_FigureSurveyModel yk_X2_consensus rfl (by decide) (by decide) (Nat.le_trans aw_0 (by decide)) rfl (mX2_consensus C.st ex478) dL_law_1502) ?_
        refine v_lstore (pc := 1505) (lv' := [(6, true, .long x478), (5, false, .int x473), (0, false, va_rf a0), (1, false, va_rf a1), (2, false, va_rf a2), (3, false, va_rf a3), (4, false, .int a4)]) C dL_law_1505 (by decide) rfl ?_
        refine v_aload_n (pc := 1507) (j := 4) C dL_law_1507 rfl rfl ?_
        obtain ⟨b480, eb480, hf⟩ := hf
        obtain ⟨rb480, _, kb480⟩ := aIs_eq eb480
        obtain ⟨x481, ex481, hf⟩ := hf
        refine v_call (pc := 1508) (d_V (pc := 1508) C (As := []) (rest := []) rb480 kb480 nt_1 q2487 yi_X2_thrown_FigureSurveyModel yk_X2_thrown rfl (by decide) (by decide) (Nat.le_trans aw_0 (by decide)) rfl (mX2_thrown C.st ex481) dL_law_1508) ?_
        refine v_iload (pc := 1511) (j := 1) C dL_law_1511 rfl ?_
        refine v_icmp_eq (pc := 1513) (tgt := 1518) C dL_law_1513 rfl (fun hc => ?_) (fun hc => ?_)
        · rw [if_pos hc] at hf
          refine v_iload (pc := 1518) (j := 1) C dL_law_1518 rfl ?_
          refine v_if_ne (pc := 1520) (tgt := 1534) C dL_law_1520 rfl (fun hc => ?_) (fun hc => ?_)
          · rw [if_neg hc] at hf
            refine v_goto (pc := 1534) (tgt := 3952) C dL_law_1534 rfl ?_
            exact V.sub [2, 3, 4, 5, 6] rfl (vL_p3952 L ih hf)
          · rw [if_pos (Decidable.of_not_not hc)] at hf
            refine v_aload_n (pc := 1523) (j := 5) C dL_law_1523 rfl rfl ?_
            refine v_iconst (pc := 1524) (v := (0 : Int32)) C dL_law_1524 rfl ?_
            obtain ⟨x483, ex483, hf⟩ := hf
            refine v_laload (pc := 1525) C ex483 dL_law_1525 ?_
            refine v_lload (pc := 1526) (j := 0) C dL_law_1526 rfl ?_
            refine v_lcmp (pc := 1528) C dL_law_1528 ?_
            refine v_if_eq (pc := 1529) (tgt := 1534) C dL_law_1529 rfl (fun hc => ?_) (fun hc => ?_)
            · rw [if_pos hc] at hf
              refine v_goto (pc := 1534) (tgt := 3952) C dL_law_1534 rfl ?_
              exact V.sub [2, 3, 4, 5, 6] rfl (vL_p3952 L ih hf)
            · rw [if_neg hc] at hf
              refine v_iconst (pc := 1532) (v := (0 : Int32)) C dL_law_1532 rfl ?_
              exact hf.elim
        · rw [if_neg hc] at hf
          refine v_iconst (pc := 1516) (v := (0 : Int32)) C dL_law_1516 rfl ?_
          exact hf.elim
      rw [if_neg j17] at hf
      by_cases j18 : (x2 &&& (63 : Int32)) = (18 : Int32)
      · rw [if_pos j18] at hf
        rw [j18]
        refine v_tableIn (pc := 39) (off := 1498) (tgt := 1537) C dL_law_39 (by decide) (by decide) rfl rfl ?_
        refine v_aload_n (pc := 1537) (j := 1) C dL_law_1537 rfl rfl ?_
        refine v_aload_n (pc := 1538) (j := 0) C dL_law_1538 rfl rfl ?_
        refine v_iload (pc := 1539) (j := 4) C dL_law_1539 rfl ?_
        refine v_iconst (pc := 1541) (v := (1 : Int32)) C dL_law_1541 rfl ?_
        refine v_iadd (pc := 1542) C dL_law_1542 ?_
        obtain ⟨x458, ex458, hf⟩ := hf
        refine v_iaload (pc := 1543) C ex458 dL_law_1543 ?_
        refine v_aload_n (pc := 1544) (j := 0) C dL_law_1544 rfl rfl ?_
        refine v_iload (pc := 1545) (j := 4) C dL_law_1545 rfl ?_
        refine v_iconst (pc := 1547) (v := (2 : Int32)) C dL_law_1547 rfl ?_
        refine v_iadd (pc := 1548) C dL_law_1548 ?_
        obtain ⟨x459, ex459, hf⟩ := hf
        refine v_iaload (pc := 1549) C ex459 dL_law_1549 ?_
        refine v_aload_n (pc := 1550) (j := 3) C dL_law_1550 rfl rfl ?_
        obtain ⟨x460, h461, ex460, ox460, hf⟩ := hf
        refine v_wcall (pc := 1551) (As := [va_rf a1, .int x458, .int x459, va_rf a3]) (rest := []) C L.2.2.2.2.2.1 q1971 q1972 q1973 q73 ⟨by decide +kernel, by decide +kernel⟩ (n9 := 4) (by decide +kernel) rfl (by decide) (by decide) (Nat.le_trans aw_0 (by decide)) rfl (mX0_mark C.st ex460) dL_law_1551 ox460.1 (by have := L.2.1; have := ox460.2.1; omega) fun D1 h462 hs => ?_
        have L := L.step (by have := L.2.1; have := ox460.2.1; omega) hs (by have := L.2.1; have := ox460.2.2; have := L.2.2.2.2.2.2; omega)
        have hf := hf D1 h462 hs
        have C := L.1
        refine v_istore (pc := 1554) (lv' := [(5, false, .int x460), (0, false, va_rf a0), (1, false, va_rf a1), (2, false, va_rf a2), (3, false, va_rf a3), (4, false, .int a4)]) C dL_law_1554 (by decide) rfl ?_
        refine v_aload_n (pc := 1556) (j := 3) C dL_law_1556 rfl rfl ?_
        refine v_aload_n (pc := 1557) (j := 1) C dL_law_1557 rfl rfl ?_
        refine v_iload (pc := 1558) (j := 5) C dL_law_1558 rfl ?_
        refine v_iconst (pc := 1560) (v := (1 : Int32)) C dL_law_1560 rfl ?_
        refine v_iadd (pc := 1561) C dL_law_1561 ?_
        obtain ⟨x463, ex463, hf⟩ := hf
        refine v_iaload (pc := 1562) C ex463 dL_law_1562 ?_
        refine v_aload_n (pc := 1563) (j := 1) C dL_law_1563 rfl rfl ?_
        refine v_iload (pc := 1564) (j := 5) C dL_law_1564 rfl ?_
        refine v_iconst (pc := 1566) (v := (2 : Int32)) C dL_law_1566 rfl ?_
        refine v_iadd (pc := 1567) C dL_law_1567 ?_
        obtain ⟨x464, ex464, hf⟩ := hf
        refine v_iaload (pc := 1568) C ex464 dL_law_1568 ?_
        obtain ⟨b465, eb465, hf⟩ := hf
        obtain ⟨rb465, _, kb465⟩ := aIs_eq eb465
        obtain ⟨x466, h467, ex466, hf⟩ := hf
        refine v_call (pc := 1569) (d_V (pc := 1569) C (As := [.int x463, .int x464]) (rest := []) rb465 kb465 nt_1 q2629 yi_X2_mark_FigureSurveyModel yk_X2_mark rfl (by decide) (by decide) (Nat.le_trans aw_0 (by decide)) rfl (mX2_mark C.st ex466) dL_law_1569) ?_
        refine v_istore (pc := 1572) (lv' := [(6, false, .int x466), (5, false, .int x460), (0, false, va_rf a0), (1, false, va_rf a1), (2, false, va_rf a2), (3, false, va_rf a3), (4, false, .int a4)]) C dL_law_1572 (by decide) rfl ?_
        refine v_aload_n (pc := 1574) (j := 4) C dL_law_1574 rfl rfl ?_
        obtain ⟨b468, eb468, hf⟩ := hf
        obtain ⟨rb468, _, kb468⟩ := aIs_eq eb468
        obtain ⟨x469, ex469, hf⟩ := hf
        refine v_call (pc := 1575) (d_V (pc := 1575) C (As := []) (rest := []) rb468 kb468 nt_1 q2487 yi_X2_thrown_FigureSurveyModel yk_X2_thrown rfl (by decide) (by decide) (Nat.le_trans aw_0 (by decide)) rfl (mX2_thrown C.st ex469) dL_law_1575) ?_
        refine v_iload (pc := 1578) (j := 1) C dL_law_1578 rfl ?_
        refine v_icmp_eq (pc := 1580) (tgt := 1585) C dL_law_1580 rfl (fun hc => ?_) (fun hc => ?_)
        · rw [if_pos hc] at hf
          refine v_iload (pc := 1585) (j := 1) C dL_law_1585 rfl ?_
          refine v_if_ne (pc := 1587) (tgt := 1602) C dL_law_1587 rfl (fun hc => ?_) (fun hc => ?_)
          · rw [if_neg hc] at hf
            refine v_goto (pc := 1602) (tgt := 3952) C dL_law_1602 rfl ?_
            exact V.sub [2, 3, 4, 5, 6] rfl (vL_p3952 L ih hf)
          · rw [if_pos (Decidable.of_not_not hc)] at hf
            refine v_aload_n (pc := 1590) (j := 5) C dL_law_1590 rfl rfl ?_
            refine v_iconst (pc := 1591) (v := (0 : Int32)) C dL_law_1591 rfl ?_
            obtain ⟨x471, ex471, hf⟩ := hf
            refine v_laload (pc := 1592) C ex471 dL_law_1592 ?_
            refine v_iload (pc := 1593) (j := 0) C dL_law_1593 rfl ?_
            refine v_i2l (pc := 1595) C dL_law_1595 ?_
            refine v_lcmp (pc := 1596) C dL_law_1596 ?_
            refine v_if_eq (pc := 1597) (tgt := 1602) C dL_law_1597 rfl (fun hc => ?_) (fun hc => ?_)
            · rw [if_pos hc] at hf
              refine v_goto (pc := 1602) (tgt := 3952) C dL_law_1602 rfl ?_
              exact V.sub [2, 3, 4, 5, 6] rfl (vL_p3952 L ih hf)
            · rw [if_neg hc] at hf
              refine v_iconst (pc := 1600) (v := (0 : Int32)) C dL_law_1600 rfl ?_
              exact hf.elim
        · rw [if_neg hc] at hf
          refine v_iconst (pc := 1583) (v := (0 : Int32)) C dL_law_1583 rfl ?_
          exact hf.elim
      rw [if_neg j18] at hf
      by_cases j19 : (x2 &&& (63 : Int32)) = (19 : Int32)
      · rw [if_pos j19] at hf
        rw [j19]
        refine v_tableIn (pc := 39) (off := 1566) (tgt := 1605) C dL_law_39 (by decide) (by decide) rfl rfl ?_
        refine v_aload_n (pc := 1605) (j := 1) C dL_law_1605 rfl rfl ?_
        refine v_aload_n (pc := 1606) (j := 0) C dL_law_1606 rfl rfl ?_
        refine v_iload (pc := 1607) (j := 4) C dL_law_1607 rfl ?_
        refine v_iconst (pc := 1609) (v := (1 : Int32)) C dL_law_1609 rfl ?_
        refine v_iadd (pc := 1610) C dL_law_1610 ?_
        obtain ⟨x446, ex446, hf⟩ := hf
        refine v_iaload (pc := 1611) C ex446 dL_law_1611 ?_
        refine v_aload_n (pc := 1612) (j := 3) C dL_law_1612 rfl rfl ?_
        obtain ⟨x447, h448, ex447, ox447, hf⟩ := hf
        refine v_wcall (pc := 1613) (As := [va_rf a1, .int x446, va_rf a3]) (rest := []) C L.2.2.2.2.2.1 q1979 q1980 q1981 q73 ⟨by decide +kernel, by decide +kernel⟩ (n9 := 3) (by decide +kernel) rfl (by decide) (by decide) (Nat.le_trans aw_0 (by decide)) rfl (mX0_clearMarks C.st ex447) dL_law_1613 ox447.1 (by have := L.2.1; have := ox447.2.1; omega) fun D1 h449 hs => ?_
        have L := L.step (by have := L.2.1; have := ox447.2.1; omega) hs (by have := L.2.1; have := ox447.2.2; have := L.2.2.2.2.2.2; omega)
        have hf := hf D1 h449 hs
        have C := L.1
        refine v_istore (pc := 1616) (lv' := [(5, false, .int x447), (0, false, va_rf a0), (1, false, va_rf a1), (2, false, va_rf a2), (3, false, va_rf a3), (4, false, .int a4)]) C dL_law_1616 (by decide) rfl ?_
        refine v_aload_n (pc := 1618) (j := 3) C dL_law_1618 rfl rfl ?_
        refine v_aload_n (pc := 1619) (j := 1) C dL_law_1619 rfl rfl ?_
        refine v_iload (pc := 1620) (j := 5) C dL_law_1620 rfl ?_
        refine v_iconst (pc := 1622) (v := (1 : Int32)) C dL_law_1622 rfl ?_
        refine v_iadd (pc := 1623) C dL_law_1623 ?_
        obtain ⟨x450, ex450, hf⟩ := hf
        refine v_iaload (pc := 1624) C ex450 dL_law_1624 ?_
        obtain ⟨b451, eb451, hf⟩ := hf
        obtain ⟨rb451, _, kb451⟩ := aIs_eq eb451
        obtain ⟨x452, h453, ex452, hf⟩ := hf
        refine v_call (pc := 1625) (d_V (pc := 1625) C (As := [.int x450]) (rest := []) rb451 kb451 nt_1 q2637 yi_X2_clearMarks_FigureSurveyModel yk_X2_clearMarks rfl (by decide) (by decide) (Nat.le_trans aw_0 (by decide)) rfl (mX2_clearMarks C.st ex452) dL_law_1625) ?_
        refine v_istore (pc := 1628) (lv' := [(6, false, .int x452), (5, false, .int x447), (0, false, va_rf a0), (1, false, va_rf a1), (2, false, va_rf a2), (3, false, va_rf a3), (4, false, .int a4)]) C dL_law_1628 (by decide) rfl ?_
        refine v_aload_n (pc := 1630) (j := 4) C dL_law_1630 rfl rfl ?_
        obtain ⟨b454, eb454, hf⟩ := hf
        obtain ⟨rb454, _, kb454⟩ := aIs_eq eb454
        obtain ⟨x455, ex455, hf⟩ := hf
        refine v_call (pc := 1631) (d_V (pc := 1631) C (As := []) (rest := []) rb454 kb454 nt_1 q2487 yi_X2_thrown_FigureSurveyModel yk_X2_thrown rfl (by decide) (by decide) (Nat.le_trans aw_0 (by decide)) rfl (mX2_thrown C.st ex455) dL_law_1631) ?_
        refine v_iload (pc := 1634) (j := 1) C dL_law_1634 rfl ?_
        refine v_icmp_eq (pc := 1636) (tgt := 1641) C dL_law_1636 rfl (fun hc => ?_) (fun hc => ?_)
        · rw [if_pos hc] at hf
          refine v_iload (pc := 1641) (j := 1) C dL_law_1641 rfl ?_
          refine v_if_ne (pc := 1643) (tgt := 1658) C dL_law_1643 rfl (fun hc => ?_) (fun hc => ?_)
          · rw [if_neg hc] at hf
            refine v_goto (pc := 1658) (tgt := 3952) C dL_law_1658 rfl ?_
            exact V.sub [2, 3, 4, 5, 6] rfl (vL_p3952 L ih hf)
          · rw [if_pos (Decidable.of_not_not hc)] at hf
            refine v_aload_n (pc := 1646) (j := 5) C dL_law_1646 rfl rfl ?_
            refine v_iconst (pc := 1647) (v := (0 : Int32)) C dL_law_1647 rfl ?_
            obtain ⟨x457, ex457, hf⟩ := hf
            refine v_laload (pc := 1648) C ex457 dL_law_1648 ?_
            refine v_iload (pc := 1649) (j := 0) C dL_law_1649 rfl ?_
            refine v_i2l (pc := 1651) C dL_law_1651 ?_
            refine v_lcmp (pc := 1652) C dL_law_1652 ?_
            refine v_if_eq (pc := 1653) (tgt := 1658) C dL_law_1653 rfl (fun hc => ?_) (fun hc => ?_)
            · rw [if_pos hc] at hf
              refine v_goto (pc := 1658) (tgt := 3952) C dL_law_1658 rfl ?_
              exact V.sub [2, 3, 4, 5, 6] rfl (vL_p3952 L ih hf)
            · rw [if_neg hc] at hf
              refine v_iconst (pc := 1656) (v := (0 : Int32)) C dL_law_1656 rfl ?_
              exact hf.elim
        · rw [if_neg hc] at hf
          refine v_iconst (pc := 1639) (v := (0 : Int32)) C dL_law_1639 rfl ?_
          exact hf.elim
      rw [if_neg j19] at hf
      by_cases j20 : (x2 &&& (63 : Int32)) = (20 : Int32)
      · rw [if_pos j20] at hf
        rw [j20]
        refine v_tableIn (pc := 39) (off := 1622) (tgt := 1661) C dL_law_39 (by decide) (by decide) rfl rfl ?_
        refine v_aload_n (pc := 1661) (j := 1) C dL_law_1661 rfl rfl ?_
        refine v_aload_n (pc := 1662) (j := 0) C dL_law_1662 rfl rfl ?_
        refine v_iload (pc := 1663) (j := 4) C dL_law_1663 rfl ?_
        refine v_iconst (pc := 1665) (v := (1 : Int32)) C dL_law_1665 rfl ?_
        refine v_iadd (pc := 1666) C dL_law_1666 ?_
        obtain ⟨x434, ex434, hf⟩ := hf
        refine v_iaload (pc := 1667) C ex434 dL_law_1667 ?_
        refine v_aload_n (pc := 1668) (j := 3) C dL_law_1668 rfl rfl ?_
        obtain ⟨x435, h436, ex435, ox435, hf⟩ := hf
        refine v_wcall (pc := 1669) (As := [va_rf a1, .int x434, va_rf a3]) (rest := []) C L.2.2.2.2.2.1 q1986 q1987 q1988 q73 ⟨by decide +kernel, by decide +kernel⟩ (n9 := 3) (by decide +kernel) rfl (by decide) (by decide) (Nat.le_trans aw_0 (by decide)) rfl (mX0_doubtOf C.st ex435) dL_law_1669 ox435.1 (by have := L.2.1; have := ox435.2.1; omega) fun D1 h437 hs => ?_
        have L := L.step (by have := L.2.1; have := ox435.2.1; omega) hs (by have := L.2.1; have := ox435.2.2; have := L.2.2.2.2.2.2; omega)
        have hf := hf D1 h437 hs
        have C := L.1
        refine v_istore (pc := 1672) (lv' := [(5, false, .int x435), (0, false, va_rf a0), (1, false, va_rf a1), (2, false, va_rf a2), (3, false, va_rf a3), (4, false, .int a4)]) C dL_law_1672 (by decide) rfl ?_
        refine v_aload_n (pc := 1674) (j := 3) C dL_law_1674 rfl rfl ?_
        refine v_aload_n (pc := 1675) (j := 1) C dL_law_1675 rfl rfl ?_
        refine v_iload (pc := 1676) (j := 5) C dL_law_1676 rfl ?_
        refine v_iconst (pc := 1678) (v := (1 : Int32)) C dL_law_1678 rfl ?_
        refine v_iadd (pc := 1679) C dL_law_1679 ?_
        obtain ⟨x438, ex438, hf⟩ := hf
        refine v_iaload (pc := 1680) C ex438 dL_law_1680 ?_
        obtain ⟨b439, eb439, hf⟩ := hf
        obtain ⟨rb439, _, kb439⟩ := aIs_eq eb439
        obtain ⟨x440, h441, ex440, hf⟩ := hf
        refine v_call (pc := 1681) (d_V (pc := 1681) C (As := [.int x438]) (rest := []) rb439 kb439 nt_1 q2641 yi_X2_doubtOf_FigureSurveyModel yk_X2_doubtOf rfl (by decide) (by decide) (Nat.le_trans aw_0 (by decide)) rfl (mX2_doubtOf C.st ex440) dL_law_1681) ?_
        refine v_istore (pc := 1684) (lv' := [(6, false, .int x440), (5, false, .int x435), (0, false, va_rf a0), (1, false, va_rf a1), (2, false, va_rf a2), (3, false, va_rf a3), (4, false, .int a4)]) C dL_law_1684 (by decide) rfl ?_
        refine v_aload_n (pc := 1686) (j := 4) C dL_law_1686 rfl rfl ?_
        obtain ⟨b442, eb442, hf⟩ := hf
        obtain ⟨rb442, _, kb442⟩ := aIs_eq eb442
        obtain ⟨x443, ex443, hf⟩ := hf
        refine v_call (pc := 1687) (d_V (pc := 1687) C (As := []) (rest := []) rb442 kb442 nt_1 q2487 yi_X2_thrown_FigureSurveyModel yk_X2_thrown rfl (by decide) (by decide) (Nat.le_trans aw_0 (by decide)) rfl (mX2_thrown C.st ex443) dL_law_1687) ?_
        refine v_iload (pc := 1690) (j := 1) C dL_law_1690 rfl ?_
        refine v_icmp_eq (pc := 1692) (tgt := 1697) C dL_law_1692 rfl (fun hc => ?_) (fun hc => ?_)
        · rw [if_pos hc] at hf
          refine v_iload (pc := 1697) (j := 1) C dL_law_1697 rfl ?_
          refine v_if_ne (pc := 1699) (tgt := 1714) C dL_law_1699 rfl (fun hc => ?_) (fun hc => ?_)
          · rw [if_neg hc] at hf
            refine v_goto (pc := 1714) (tgt := 3952) C dL_law_1714 rfl ?_
            exact V.sub [2, 3, 4, 5, 6] rfl (vL_p3952 L ih hf)
          · rw [if_pos (Decidable.of_not_not hc)] at hf
            refine v_aload_n (pc := 1702) (j := 5) C dL_law_1702 rfl rfl ?_
            refine v_iconst (pc := 1703) (v := (0 : Int32)) C dL_law_1703 rfl ?_
            obtain ⟨x445, ex445, hf⟩ := hf
            refine v_laload (pc := 1704) C ex445 dL_law_1704 ?_
            refine v_iload (pc := 1705) (j := 0) C dL_law_1705 rfl ?_
            refine v_i2l (pc := 1707) C dL_law_1707 ?_
            refine v_lcmp (pc := 1708) C dL_law_1708 ?_
            refine v_if_eq (pc := 1709) (tgt := 1714) C dL_law_1709 rfl (fun hc => ?_) (fun hc => ?_)
            · rw [if_pos hc] at hf
              refine v_goto (pc := 1714) (tgt := 3952) C dL_law_1714 rfl ?_
              exact V.sub [2, 3, 4, 5, 6] rfl (vL_p3952 L ih hf)
            · rw [if_neg hc] at hf
              refine v_iconst (pc := 1712) (v := (0 : Int32)) C dL_law_1712 rfl ?_
              exact hf.elim
        · rw [if_neg hc] at hf
          refine v_iconst (pc := 1695) (v := (0 : Int32)) C dL_law_1695 rfl ?_
          exact hf.elim
      rw [if_neg j20] at hf
      by_cases j21 : (x2 &&& (63 : Int32)) = (21 : Int32)
      · rw [if_pos j21] at hf
        rw [j21]
        refine v_tableIn (pc := 39) (off := 1678) (tgt := 1717) C dL_law_39 (by decide) (by decide) rfl rfl ?_
        refine v_aload_n (pc := 1717) (j := 1) C dL_law_1717 rfl rfl ?_
        refine v_aload_n (pc := 1718) (j := 0) C dL_law_1718 rfl rfl ?_
        refine v_iload (pc := 1719) (j := 4) C dL_law_1719 rfl ?_
        refine v_iconst (pc := 1721) (v := (1 : Int32)) C dL_law_1721 rfl ?_
        refine v_iadd (pc := 1722) C dL_law_1722 ?_
        obtain ⟨x420, ex420, hf⟩ := hf
        refine v_iaload (pc := 1723) C ex420 dL_law_1723 ?_
        refine v_aload_n (pc := 1724) (j := 0) C dL_law_1724 rfl rfl ?_
        refine v_iload (pc := 1725) (j := 4) C dL_law_1725 rfl ?_
        refine v_iconst (pc := 1727) (v := (2 : Int32)) C dL_law_1727 rfl ?_
        refine v_iadd (pc := 1728) C dL_law_1728 ?_
        obtain ⟨x421, ex421, hf⟩ := hf
        refine v_iaload (pc := 1729) C ex421 dL_law_1729 ?_
        refine v_aload_n (pc := 1730) (j := 3) C dL_law_1730 rfl rfl ?_
        obtain ⟨x422, h423, ex422, ox422, hf⟩ := hf
        refine v_wcall (pc := 1731) (As := [va_rf a1, .int x420, .int x421, va_rf a3]) (rest := []) C L.2.2.2.2.2.1 q1993 q1994 q1995 q73 ⟨by decide +kernel, by decide +kernel⟩ (n9 := 4) (by decide +kernel) rfl (by decide) (by decide) (Nat.le_trans aw_0 (by decide)) rfl (mX0_setWeapon C.st ex422) dL_law_1731 ox422.1 (by have := L.2.1; have := ox422.2.1; omega) fun D1 h424 hs => ?_
        have L := L.step (by have := L.2.1; have := ox422.2.1; omega) hs (by have := L.2.1; have := ox422.2.2; have := L.2.2.2.2.2.2; omega)
        have hf := hf D1 h424 hs
        have C := L.1
        refine v_istore (pc := 1734) (lv' := [(5, false, .int x422), (0, false, va_rf a0), (1, false, va_rf a1), (2, false, va_rf a2), (3, false, va_rf a3), (4, false, .int a4)]) C dL_law_1734 (by decide) rfl ?_
        refine v_aload_n (pc := 1736) (j := 3) C dL_law_1736 rfl rfl ?_
        refine v_aload_n (pc := 1737) (j := 1) C dL_law_1737 rfl rfl ?_
        refine v_iload (pc := 1738) (j := 5) C dL_law_1738 rfl ?_
        refine v_iconst (pc := 1740) (v := (1 : Int32)) C dL_law_1740 rfl ?_
        refine v_iadd (pc := 1741) C dL_law_1741 ?_
        obtain ⟨x425, ex425, hf⟩ := hf
        refine v_iaload (pc := 1742) C ex425 dL_law_1742 ?_
        refine v_aload_n (pc := 1743) (j := 1) C dL_law_1743 rfl rfl ?_
        refine v_iload (pc := 1744) (j := 5) C dL_law_1744 rfl ?_
        refine v_iconst (pc := 1746) (v := (2 : Int32)) C dL_law_1746 rfl ?_
        refine v_iadd (pc := 1747) C dL_law_1747 ?_
        obtain ⟨x426, ex426, hf⟩ := hf
        refine v_iaload (pc := 1748) C ex426 dL_law_1748 ?_
        obtain ⟨b427, eb427, hf⟩ := hf
        obtain ⟨rb427, _, kb427⟩ := aIs_eq eb427
        obtain ⟨x428, h429, ex428, hf⟩ := hf
        refine v_call (pc := 1749) (d_V (pc := 1749) C (As := [.int x425, .int x426]) (rest := []) rb427 kb427 nt_1 q2645 yi_X2_setWeapon_FigureSurveyModel yk_X2_setWeapon rfl (by decide) (by decide) (Nat.le_trans aw_0 (by decide)) rfl (mX2_setWeapon C.st ex428) dL_law_1749) ?_
        refine v_istore (pc := 1752) (lv' := [(6, false, .int x428), (5, false, .int x422), (0, false, va_rf a0), (1, false, va_rf a1), (2, false, va_rf a2), (3, false, va_rf a3), (4, false, .int a4)]) C dL_law_1752 (by decide) rfl ?_
        refine v_aload_n (pc := 1754) (j := 4) C dL_law_1754 rfl rfl ?_
        obtain ⟨b430, eb430, hf⟩ := hf
        obtain ⟨rb430, _, kb430⟩ := aIs_eq eb430
        obtain ⟨x431, ex431, hf⟩ := hf
        refine v_call (pc := 1755) (d_V (pc := 1755) C (As := []) (rest := []) rb430 kb430 nt_1 q2487 yi_X2_thrown_FigureSurveyModel yk_X2_thrown rfl (by decide) (by decide) (Nat.le_trans aw_0 (by decide)) rfl (mX2_thrown C.st ex431) dL_law_1755) ?_
        refine v_iload (pc := 1758) (j := 1) C dL_law_1758 rfl ?_
        refine v_icmp_eq (pc := 1760) (tgt := 1765) C dL_law_1760 rfl (fun hc => ?_) (fun hc => ?_)
        · rw [if_pos hc] at hf
          refine v_iload (pc := 1765) (j := 1) C dL_law_1765 rfl ?_
          refine v_if_ne (pc := 1767) (tgt := 1782) C dL_law_1767 rfl (fun hc => ?_) (fun hc => ?_)
          · rw [if_neg hc] at hf
            refine v_goto (pc := 1782) (tgt := 3952) C dL_law_1782 rfl ?_
            exact V.sub [2, 3, 4, 5, 6] rfl (vL_p3952 L ih hf)
          · rw [if_pos (Decidable.of_not_not hc)] at hf
            refine v_aload_n (pc := 1770) (j := 5) C dL_law_1770 rfl rfl ?_
            refine v_iconst (pc := 1771) (v := (0 : Int32)) C dL_law_1771 rfl ?_
            obtain ⟨x433, ex433, hf⟩ := hf
            refine v_laload (pc := 1772) C ex433 dL_law_1772 ?_
            refine v_iload (pc := 1773) (j := 0) C dL_law_1773 rfl ?_
            refine v_i2l (pc := 1775) C dL_law_1775 ?_
            refine v_lcmp (pc := 1776) C dL_law_1776 ?_
            refine v_if_eq (pc := 1777) (tgt := 1782) C dL_law_1777 rfl (fun hc => ?_) (fun hc => ?_)
            · rw [if_pos hc] at hf
              refine v_goto (pc := 1782) (tgt := 3952) C dL_law_1782 rfl ?_
              exact V.sub [2, 3, 4, 5, 6] rfl (vL_p3952 L ih hf)
            · rw [if_neg hc] at hf
              refine v_iconst (pc := 1780) (v := (0 : Int32)) C dL_law_1780 rfl ?_
              exact hf.elim
        · rw [if_neg hc] at hf
          refine v_iconst (pc := 1763) (v := (0 : Int32)) C dL_law_1763 rfl ?_
          exact hf.elim
      rw [if_neg j21] at hf
      by_cases j22 : (x2 &&& (63 : Int32)) = (22 : Int32)
      · rw [if_pos j22] at hf
        rw [j22]
        refine v_tableIn (pc := 39) (off := 1746) (tgt := 1785) C dL_law_39 (by decide) (by decide) rfl rfl ?_
        refine v_aload_n (pc := 1785) (j := 1) C dL_law_1785 rfl rfl ?_
        refine v_aload_n (pc := 1786) (j := 0) C dL_law_1786 rfl rfl ?_
        refine v_iload (pc := 1787) (j := 4) C dL_law_1787 rfl ?_
        refine v_iconst (pc := 1789) (v := (1 : Int32)) C dL_law_1789 rfl ?_
        refine v_iadd (pc := 1790) C dL_law_1790 ?_
        obtain ⟨x406, ex406, hf⟩ := hf
        refine v_iaload (pc := 1791) C ex406 dL_law_1791 ?_
        refine v_aload_n (pc := 1792) (j := 0) C dL_law_1792 rfl rfl ?_
        refine v_iload (pc := 1793) (j := 4) C dL_law_1793 rfl ?_
        refine v_iconst (pc := 1795) (v := (2 : Int32)) C dL_law_1795 rfl ?_
        refine v_iadd (pc := 1796) C dL_law_1796 ?_
        obtain ⟨x407, ex407, hf⟩ := hf
        refine v_iaload (pc := 1797) C ex407 dL_law_1797 ?_
        refine v_aload_n (pc := 1798) (j := 3) C dL_law_1798 rfl rfl ?_
        obtain ⟨x408, h409, ex408, ox408, hf⟩ := hf
        refine v_wcall (pc := 1799) (As := [va_rf a1, .int x406, .int x407, va_rf a3]) (rest := []) C L.2.2.2.2.2.1 q2000 q2001 q2002 q73 ⟨by decide +kernel, by decide +kernel⟩ (n9 := 4) (by decide +kernel) rfl (by decide) (by decide) (Nat.le_trans aw_0 (by decide)) rfl (mX0_setAnimal C.st ex408) dL_law_1799 ox408.1 (by have := L.2.1; have := ox408.2.1; omega) fun D1 h410 hs => ?_
        have L := L.step (by have := L.2.1; have := ox408.2.1; omega) hs (by have := L.2.1; have := ox408.2.2; have := L.2.2.2.2.2.2; omega)
        have hf := hf D1 h410 hs
        have C := L.1
        refine v_istore (pc := 1802) (lv' := [(5, false, .int x408), (0, false, va_rf a0), (1, false, va_rf a1), (2, false, va_rf a2), (3, false, va_rf a3), (4, false, .int a4)]) C dL_law_1802 (by decide) rfl ?_
        refine v_aload_n (pc := 1804) (j := 3) C dL_law_1804 rfl rfl ?_
        refine v_aload_n (pc := 1805) (j := 1) C dL_law_1805 rfl rfl ?_
        refine v_iload (pc := 1806) (j := 5) C dL_law_1806 rfl ?_
        refine v_iconst (pc := 1808) (v := (1 : Int32)) C dL_law_1808 rfl ?_
        refine v_iadd (pc := 1809) C dL_law_1809 ?_
        obtain ⟨x411, ex411, hf⟩ := hf
        refine v_iaload (pc := 1810) C ex411 dL_law_1810 ?_
        refine v_aload_n (pc := 1811) (j := 1) C dL_law_1811 rfl rfl ?_
        refine v_iload (pc := 1812) (j := 5) C dL_law_1812 rfl ?_
        refine v_iconst (pc := 1814) (v := (2 : Int32)) C dL_law_1814 rfl ?_
        refine v_iadd (pc := 1815) C dL_law_1815 ?_
        obtain ⟨x412, ex412, hf⟩ := hf
        refine v_iaload (pc := 1816) C ex412 dL_law_1816 ?_
        obtain ⟨b413, eb413, hf⟩ := hf
        obtain ⟨rb413, _, kb413⟩ := aIs_eq eb413
        obtain ⟨x414, h415, ex414, hf⟩ := hf
        refine v_call (pc := 1817) (d_V (pc := 1817) C (As := [.int x411, .int x412]) (rest := []) rb413 kb413 nt_1 q2649 yi_X2_setAnimal_FigureSurveyModel yk_X2_setAnimal rfl (by decide) (by decide) (Nat.le_trans aw_0 (by decide)) rfl (mX2_setAnimal C.st ex414) dL_law_1817) ?_
        refine v_istore (pc := 1820) (lv' := [(6, false, .int x414), (5, false, .int x408), (0, false, va_rf a0), (1, false, va_rf a1), (2, false, va_rf a2), (3, false, va_rf a3), (4, false, .int a4)]) C dL_law_1820 (by decide) rfl ?_
        refine v_aload_n (pc := 1822) (j := 4) C dL_law_1822 rfl rfl ?_
        obtain ⟨b416, eb416, hf⟩ := hf
        obtain ⟨rb416, _, kb416⟩ := aIs_eq eb416
        obtain ⟨x417, ex417, hf⟩ := hf
        refine v_call (pc := 1823) (d_V (pc := 1823) C (As := []) (rest := []) rb416 kb416 nt_1 q2487 yi_X2_thrown_FigureSurveyModel yk_X2_thrown rfl (by decide) (by decide) (Nat.le_trans aw_0 (by decide)) rfl (mX2_thrown C.st ex417) dL_law_1823) ?_
        refine v_iload (pc := 1826) (j := 1) C dL_law_1826 rfl ?_
        refine v_icmp_eq (pc := 1828) (tgt := 1833) C dL_law_1828 rfl (fun hc => ?_) (fun hc => ?_)
        · rw [if_pos hc] at hf
          refine v_iload (pc := 1833) (j := 1) C dL_law_1833 rfl ?_
          refine v_if_ne (pc := 1835) (tgt := 1850) C dL_law_1835 rfl (fun hc => ?_) (fun hc => ?_)
          · rw [if_neg hc] at hf
            refine v_goto (pc := 1850) (tgt := 3952) C dL_law_1850 rfl ?_
            exact V.sub [2, 3, 4, 5, 6] rfl (vL_p3952 L ih hf)
          · rw [if_pos (Decidable.of_not_not hc)] at hf
            refine v_aload_n (pc := 1838) (j := 5) C dL_law_1838 rfl rfl ?_
            refine v_iconst (pc := 1839) (v := (0 : Int32)) C dL_law_1839 rfl ?_
            obtain ⟨x419, ex419, hf⟩ := hf
            refine v_laload (pc := 1840) C ex419 dL_law_1840 ?_
            refine v_iload (pc := 1841) (j := 0) C dL_law_1841 rfl ?_
            refine v_i2l (pc := 1843) C dL_law_1843 ?_
            refine v_lcmp (pc := 1844) C dL_law_1844 ?_
            refine v_if_eq (pc := 1845) (tgt := 1850) C dL_law_1845 rfl (fun hc => ?_) (fun hc => ?_)
            · rw [if_pos hc] at hf
              refine v_goto (pc := 1850) (tgt := 3952) C dL_law_1850 rfl ?_
              exact V.sub [2, 3, 4, 5, 6] rfl (vL_p3952 L ih hf)
            · rw [if_neg hc] at hf
              refine v_iconst (pc := 1848) (v := (0 : Int32)) C dL_law_1848 rfl ?_
              exact hf.elim
        · rw [if_neg hc] at hf
          refine v_iconst (pc := 1831) (v := (0 : Int32)) C dL_law_1831 rfl ?_
          exact hf.elim
      rw [if_neg j22] at hf
      by_cases j23 : (x2 &&& (63 : Int32)) = (23 : Int32)
      · rw [if_pos j23] at hf
        rw [j23]
        refine v_tableIn (pc := 39) (off := 1814) (tgt := 1853) C dL_law_39 (by decide) (by decide) rfl rfl ?_
        refine v_aload_n (pc := 1853) (j := 1) C dL_law_1853 rfl rfl ?_
        refine v_aload_n (pc := 1854) (j := 0) C dL_law_1854 rfl rfl ?_
        refine v_iload (pc := 1855) (j := 4) C dL_law_1855 rfl ?_
        refine v_iconst (pc := 1857) (v := (1 : Int32)) C dL_law_1857 rfl ?_
        refine v_iadd (pc := 1858) C dL_law_1858 ?_
        obtain ⟨x390, ex390, hf⟩ := hf
        refine v_iaload (pc := 1859) C ex390 dL_law_1859 ?_
        refine v_aload_n (pc := 1860) (j := 0) C dL_law_1860 rfl rfl ?_
        refine v_iload (pc := 1861) (j := 4) C dL_law_1861 rfl ?_
        refine v_iconst (pc := 1863) (v := (2 : Int32)) C dL_law_1863 rfl ?_
        refine v_iadd (pc := 1864) C dL_law_1864 ?_
        obtain ⟨x391, ex391, hf⟩ := hf
        refine v_iaload (pc := 1865) C ex391 dL_law_1865 ?_
        refine v_aload_n (pc := 1866) (j := 0) C dL_law_1866 rfl rfl ?_
        refine v_iload (pc := 1867) (j := 4) C dL_law_1867 rfl ?_
        refine v_iconst (pc := 1869) (v := (3 : Int32)) C dL_law_1869 rfl ?_
        refine v_iadd (pc := 1870) C dL_law_1870 ?_
        obtain ⟨x392, ex392, hf⟩ := hf
        refine v_iaload (pc := 1871) C ex392 dL_law_1871 ?_
        refine v_aload_n (pc := 1872) (j := 3) C dL_law_1872 rfl rfl ?_
        obtain ⟨x393, h394, ex393, ox393, hf⟩ := hf
        refine v_wcall (pc := 1873) (As := [va_rf a1, .int x390, .int x391, .int x392, va_rf a3]) (rest := []) C L.2.2.2.2.2.1 q2007 q2008 q2009 q73 ⟨by decide +kernel, by decide +kernel⟩ (n9 := 5) (by decide +kernel) rfl (by decide) (by decide) (Nat.le_trans aw_0 (by decide)) rfl (mX0_findOver C.st ex393) dL_law_1873 ox393.1 (by have := L.2.1; have := ox393.2.1; omega) fun D1 h395 hs => ?_
        have L := L.step (by have := L.2.1; have := ox393.2.1; omega) hs (by have := L.2.1; have := ox393.2.2; have := L.2.2.2.2.2.2; omega)
        have hf := hf D1 h395 hs
        have C := L.1
        refine v_istore (pc := 1876) (lv' := [(5, false, .int x393), (0, false, va_rf a0), (1, false, va_rf a1), (2, false, va_rf a2), (3, false, va_rf a3), (4, false, .int a4)]) C dL_law_1876 (by decide) rfl ?_
        refine v_aload_n (pc := 1878) (j := 3) C dL_law_1878 rfl rfl ?_
        refine v_aload_n (pc := 1879) (j := 1) C dL_law_1879 rfl rfl ?_
        refine v_iload (pc := 1880) (j := 5) C dL_law_1880 rfl ?_
        refine v_iconst (pc := 1882) (v := (1 : Int32)) C dL_law_1882 rfl ?_
        refine v_iadd (pc := 1883) C dL_law_1883 ?_
        obtain ⟨x396, ex396, hf⟩ := hf
        refine v_iaload (pc := 1884) C ex396 dL_law_1884 ?_
        refine v_aload_n (pc := 1885) (j := 1) C dL_law_1885 rfl rfl ?_
        refine v_iload (pc := 1886) (j := 5) C dL_law_1886 rfl ?_
        refine v_iconst (pc := 1888) (v := (2 : Int32)) C dL_law_1888 rfl ?_
        refine v_iadd (pc := 1889) C dL_law_1889 ?_
        obtain ⟨x397, ex397, hf⟩ := hf
        refine v_iaload (pc := 1890) C ex397 dL_law_1890 ?_
        refine v_aload_n (pc := 1891) (j := 1) C dL_law_1891 rfl rfl ?_
        refine v_iload (pc := 1892) (j := 5) C dL_law_1892 rfl ?_
        refine v_iconst (pc := 1894) (v := (3 : Int32)) C dL_law_1894 rfl ?_
        refine v_iadd (pc := 1895) C dL_law_1895 ?_
        obtain ⟨x398, ex398, hf⟩ := hf
        refine v_iaload (pc := 1896) C ex398 dL_law_1896 ?_
        obtain ⟨b399, eb399, hf⟩ := hf
        obtain ⟨rb399, _, kb399⟩ := aIs_eq eb399
        obtain ⟨x400, h401, ex400, hf⟩ := hf
        refine v_call (pc := 1897) (d_V (pc := 1897) C (As := [.int x396, .int x397, .int x398]) (rest := []) rb399 kb399 nt_1 q2653 yi_X2_findOver_FigureSurveyModel yk_X2_findOver rfl (by decide) (by decide) (Nat.le_trans aw_0 (by decide)) rfl (mX2_findOver C.st ex400) dL_law_1897) ?_
        refine v_istore (pc := 1900) (lv' := [(6, false, .int x400), (5, false, .int x393), (0, false, va_rf a0), (1, false, va_rf a1), (2, false, va_rf a2), (3, false, va_rf a3), (4, false, .int a4)]) C dL_law_1900 (by decide) rfl ?_
        refine v_aload_n (pc := 1902) (j := 4) C dL_law_1902 rfl rfl ?_
        obtain ⟨b402, eb402, hf⟩ := hf
        obtain ⟨rb402, _, kb402⟩ := aIs_eq eb402
        obtain ⟨x403, ex403, hf⟩ := hf
        refine v_call (pc := 1903) (d_V (pc := 1903) C (As := []) (rest := []) rb402 kb402 nt_1 q2487 yi_X2_thrown_FigureSurveyModel yk_X2_thrown rfl (by decide) (by decide) (Nat.le_trans aw_0 (by decide)) rfl (mX2_thrown C.st ex403) dL_law_1903) ?_
        refine v_iload (pc := 1906) (j := 1) C dL_law_1906 rfl ?_
        refine v_icmp_eq (pc := 1908) (tgt := 1913) C dL_law_1908 rfl (fun hc => ?_) (fun hc => ?_)
        · rw [if_pos hc] at hf
          refine v_iload (pc := 1913) (j := 1) C dL_law_1913 rfl ?_
          refine v_if_ne (pc := 1915) (tgt := 1930) C dL_law_1915 rfl (fun hc => ?_) (fun hc => ?_)
          · rw [if_neg hc] at hf
            refine v_goto (pc := 1930) (tgt := 3952) C dL_law_1930 rfl ?_
            exact V.sub [2, 3, 4, 5, 6] rfl (vL_p3952 L ih hf)
          · rw [if_pos (Decidable.of_not_not hc)] at hf
            refine v_aload_n (pc := 1918) (j := 5) C dL_law_1918 rfl rfl ?_
            refine v_iconst (pc := 1919) (v := (0 : Int32)) C dL_law_1919 rfl ?_
            obtain ⟨x405, ex405, hf⟩ := hf
            refine v_laload (pc := 1920) C ex405 dL_law_1920 ?_
            refine v_iload (pc := 1921) (j := 0) C dL_law_1921 rfl ?_
            refine v_i2l (pc := 1923) C dL_law_1923 ?_
            refine v_lcmp (pc := 1924) C dL_law_1924 ?_
            refine v_if_eq (pc := 1925) (tgt := 1930) C dL_law_1925 rfl (fun hc => ?_) (fun hc => ?_)
            · rw [if_pos hc] at hf
              refine v_goto (pc := 1930) (tgt := 3952) C dL_law_1930 rfl ?_
              exact V.sub [2, 3, 4, 5, 6] rfl (vL_p3952 L ih hf)
            · rw [if_neg hc] at hf
              refine v_iconst (pc := 1928) (v := (0 : Int32)) C dL_law_1928 rfl ?_
              exact hf.elim
        · rw [if_neg hc] at hf
          refine v_iconst (pc := 1911) (v := (0 : Int32)) C dL_law_1911 rfl ?_
          exact hf.elim
      rw [if_neg j23] at hf
      by_cases j24 : (x2 &&& (63 : Int32)) = (24 : Int32)
      · rw [if_pos j24] at hf
        rw [j24]
        refine v_tableIn (pc := 39) (off := 1894) (tgt := 1933) C dL_law_39 (by decide) (by decide) rfl rfl ?_
        refine v_aload_n (pc := 1933) (j := 1) C dL_law_1933 rfl rfl ?_
        refine v_aload_n (pc := 1934) (j := 0) C dL_law_1934 rfl rfl ?_
        refine v_iload (pc := 1935) (j := 4) C dL_law_1935 rfl ?_
        refine v_iconst (pc := 1937) (v := (1 : Int32)) C dL_law_1937 rfl ?_
        refine v_iadd (pc := 1938) C dL_law_1938 ?_
        obtain ⟨x372, ex372, hf⟩ := hf
        refine v_iaload (pc := 1939) C ex372 dL_law_1939 ?_
        refine v_aload_n (pc := 1940) (j := 0) C dL_law_1940 rfl rfl ?_
        refine v_iload (pc := 1941) (j := 4) C dL_law_1941 rfl ?_
        refine v_iconst (pc := 1943) (v := (2 : Int32)) C dL_law_1943 rfl ?_
        refine v_iadd (pc := 1944) C dL_law_1944 ?_
        obtain ⟨x373, ex373, hf⟩ := hf
        refine v_iaload (pc := 1945) C ex373 dL_law_1945 ?_
        refine v_aload_n (pc := 1946) (j := 0) C dL_law_1946 rfl rfl ?_
        refine v_iload (pc := 1947) (j := 4) C dL_law_1947 rfl ?_
        refine v_iconst (pc := 1949) (v := (3 : Int32)) C dL_law_1949 rfl ?_
        refine v_iadd (pc := 1950) C dL_law_1950 ?_
        obtain ⟨x374, ex374, hf⟩ := hf
        refine v_iaload (pc := 1951) C ex374 dL_law_1951 ?_
        refine v_aload_n (pc := 1952) (j := 0) C dL_law_1952 rfl rfl ?_
        refine v_iload (pc := 1953) (j := 4) C dL_law_1953 rfl ?_
        refine v_iconst (pc := 1955) (v := (4 : Int32)) C dL_law_1955 rfl ?_
        refine v_iadd (pc := 1956) C dL_law_1956 ?_
        obtain ⟨x375, ex375, hf⟩ := hf
        refine v_iaload (pc := 1957) C ex375 dL_law_1957 ?_
        refine v_aload_n (pc := 1958) (j := 3) C dL_law_1958 rfl rfl ?_
        obtain ⟨x376, h377, ex376, ox376, hf⟩ := hf
        refine v_wcall (pc := 1959) (As := [va_rf a1, .int x372, .int x373, .int x374, .int x375, va_rf a3]) (rest := []) C L.2.2.2.2.2.1 q2079 q2080 q2081 q73 ⟨by decide +kernel, by decide +kernel⟩ (n9 := 6) (by decide +kernel) rfl (by decide) (by decide) (Nat.le_trans aw_0 (by decide)) rfl (mX0_findDate C.st ex376) dL_law_1959 ox376.1 (by have := L.2.1; have := ox376.2.1; omega) fun D1 h378 hs => ?_
        have L := L.step (by have := L.2.1; have := ox376.2.1; omega) hs (by have := L.2.1; have := ox376.2.2; have := L.2.2.2.2.2.2; omega)
        have hf := hf D1 h378 hs
        have C := L.1
        refine v_istore (pc := 1962) (lv' := [(5, false, .int x376), (0, false, va_rf a0), (1, false, va_rf a1), (2, false, va_rf a2), (3, false, va_rf a3), (4, false, .int a4)]) C dL_law_1962 (by decide) rfl ?_
        refine v_aload_n (pc := 1964) (j := 3) C dL_law_1964 rfl rfl ?_
        refine v_aload_n (pc := 1965) (j := 1) C dL_law_1965 rfl rfl ?_
        refine v_iload (pc := 1966) (j := 5) C dL_law_1966 rfl ?_
        refine v_iconst (pc := 1968) (v := (1 : Int32)) C dL_law_1968 rfl ?_
        refine v_iadd (pc := 1969) C dL_law_1969 ?_
        obtain ⟨x379, ex379, hf⟩ := hf
        refine v_iaload (pc := 1970) C ex379 dL_law_1970 ?_
        refine v_aload_n (pc := 1971) (j := 1) C dL_law_1971 rfl rfl ?_
        refine v_iload (pc := 1972) (j := 5) C dL_law_1972 rfl ?_
        refine v_iconst (pc := 1974) (v := (2 : Int32)) C dL_law_1974 rfl ?_
        refine v_iadd (pc := 1975) C dL_law_1975 ?_
        obtain ⟨x380, ex380, hf⟩ := hf
        refine v_iaload (pc := 1976) C ex380 dL_law_1976 ?_
        refine v_aload_n (pc := 1977) (j := 1) C dL_law_1977 rfl rfl ?_
        refine v_iload (pc := 1978) (j := 5) C dL_law_1978 rfl ?_
        refine v_iconst (pc := 1980) (v := (3 : Int32)) C dL_law_1980 rfl ?_
        refine v_iadd (pc := 1981) C dL_law_1981 ?_
        obtain ⟨x381, ex381, hf⟩ := hf
        refine v_iaload (pc := 1982) C ex381 dL_law_1982 ?_
        refine v_aload_n (pc := 1983) (j := 1) C dL_law_1983 rfl rfl ?_
        refine v_iload (pc := 1984) (j := 5) C dL_law_1984 rfl ?_
        refine v_iconst (pc := 1986) (v := (4 : Int32)) C dL_law_1986 rfl ?_
        refine v_iadd (pc := 1987) C dL_law_1987 ?_
        obtain ⟨x382, ex382, hf⟩ := hf
        refine v_iaload (pc := 1988) C ex382 dL_law_1988 ?_
        obtain ⟨b383, eb383, hf⟩ := hf
        obtain ⟨rb383, _, kb383⟩ := aIs_eq eb383
        obtain ⟨x384, h385, ex384, hf⟩ := hf
        refine v_call (pc := 1989) (d_V (pc := 1989) C (As := [.int x379, .int x380, .int x381, .int x382]) (rest := []) rb383 kb383 nt_1 q2666 yi_X2_findDate_FigureSurveyModel yk_X2_findDate rfl (by decide) (by decide) (Nat.le_trans aw_0 (by decide)) rfl (mX2_findDate C.st ex384) dL_law_1989) ?_
        refine v_istore (pc := 1992) (lv' := [(6, false, .int x384), (5, false, .int x376), (0, false, va_rf a0), (1, false, va_rf a1), (2, false, va_rf a2), (3, false, va_rf a3), (4, false, .int a4)]) C dL_law_1992 (by decide) rfl ?_
        refine v_aload_n (pc := 1994) (j := 4) C dL_law_1994 rfl rfl ?_
        obtain ⟨b386, eb386, hf⟩ := hf
        obtain ⟨rb386, _, kb386⟩ := aIs_eq eb386
        obtain ⟨x387, ex387, hf⟩ := hf
        refine v_call (pc := 1995) (d_V (pc := 1995) C (As := []) (rest := []) rb386 kb386 nt_1 q2487 yi_X2_thrown_FigureSurveyModel yk_X2_thrown rfl (by decide) (by decide) (Nat.le_trans aw_0 (by decide)) rfl (mX2_thrown C.st ex387) dL_law_1995) ?_
        refine v_iload (pc := 1998) (j := 1) C dL_law_1998 rfl ?_
        refine v_icmp_eq (pc := 2000) (tgt := 2005) C dL_law_2000 rfl (fun hc => ?_) (fun hc => ?_)
        · rw [if_pos hc] at hf
          refine v_iload (pc := 2005) (j := 1) C dL_law_2005 rfl ?_
          refine v_if_ne (pc := 2007) (tgt := 2022) C dL_law_2007 rfl (fun hc => ?_) (fun hc => ?_)
          · rw [if_neg hc] at hf
            refine v_goto (pc := 2022) (tgt := 3952) C dL_law_2022 rfl ?_
            exact V.sub [2, 3, 4, 5, 6] rfl (vL_p3952 L ih hf)
          · rw [if_pos (Decidable.of_not_not hc)] at hf
            refine v_aload_n (pc := 2010) (j := 5) C dL_law_2010 rfl rfl ?_
            refine v_iconst (pc := 2011) (v := (0 : Int32)) C dL_law_2011 rfl ?_
            obtain ⟨x389, ex389, hf⟩ := hf
            refine v_laload (pc := 2012) C ex389 dL_law_2012 ?_
            refine v_iload (pc := 2013) (j := 0) C dL_law_2013 rfl ?_
            refine v_i2l (pc := 2015) C dL_law_2015 ?_
            refine v_lcmp (pc := 2016) C dL_law_2016 ?_
            refine v_if_eq (pc := 2017) (tgt := 2022) C dL_law_2017 rfl (fun hc => ?_) (fun hc => ?_)
            · rw [if_pos hc] at hf
              refine v_goto (pc := 2022) (tgt := 3952) C dL_law_2022 rfl ?_
              exact V.sub [2, 3, 4, 5, 6] rfl (vL_p3952 L ih hf)
            · rw [if_neg hc] at hf
              refine v_iconst (pc := 2020) (v := (0 : Int32)) C dL_law_2020 rfl ?_
              exact hf.elim
        · rw [if_neg hc] at hf
          refine v_iconst (pc := 2003) (v := (0 : Int32)) C dL_law_2003 rfl ?_
          exact hf.elim
      rw [if_neg j24] at hf
      by_cases j25 : (x2 &&& (63 : Int32)) = (25 : Int32)
      · rw [if_pos j25] at hf
        rw [j25]
        refine v_tableIn (pc := 39) (off := 1986) (tgt := 2025) C dL_law_39 (by decide) (by decide) rfl rfl ?_
        refine v_aload_n (pc := 2025) (j := 1) C dL_law_2025 rfl rfl ?_
        refine v_aload_n (pc := 2026) (j := 0) C dL_law_2026 rfl rfl ?_
        refine v_iload (pc := 2027) (j := 4) C dL_law_2027 rfl ?_
        refine v_iconst (pc := 2029) (v := (1 : Int32)) C dL_law_2029 rfl ?_
        refine v_iadd (pc := 2030) C dL_law_2030 ?_
        obtain ⟨x360, ex360, hf⟩ := hf
        refine v_iaload (pc := 2031) C ex360 dL_law_2031 ?_
        refine v_aload_n (pc := 2032) (j := 3) C dL_law_2032 rfl rfl ?_
        obtain ⟨x361, h362, ex361, ox361, hf⟩ := hf
        refine v_wcall (pc := 2033) (As := [va_rf a1, .int x360, va_rf a3]) (rest := []) C L.2.2.2.2.2.1 q2086 q2087 q2088 q73 ⟨by decide +kernel, by decide +kernel⟩ (n9 := 3) (by decide +kernel) rfl (by decide) (by decide) (Nat.le_trans aw_0 (by decide)) rfl (mX0_remove C.st ex361) dL_law_2033 ox361.1 (by have := L.2.1; have := ox361.2.1; omega) fun D1 h363 hs => ?_
        have L := L.step (by have := L.2.1; have := ox361.2.1; omega) hs (by have := L.2.1; have := ox361.2.2; have := L.2.2.2.2.2.2; omega)
        have hf := hf D1 h363 hs
        have C := L.1
        refine v_istore (pc := 2036) (lv' := [(5, false, .int x361), (0, false, va_rf a0), (1, false, va_rf a1), (2, false, va_rf a2), (3, false, va_rf a3), (4, false, .int a4)]) C dL_law_2036 (by decide) rfl ?_
        refine v_aload_n (pc := 2038) (j := 3) C dL_law_2038 rfl rfl ?_
        refine v_aload_n (pc := 2039) (j := 1) C dL_law_2039 rfl rfl ?_
        refine v_iload (pc := 2040) (j := 5) C dL_law_2040 rfl ?_
        refine v_iconst (pc := 2042) (v := (1 : Int32)) C dL_law_2042 rfl ?_
        refine v_iadd (pc := 2043) C dL_law_2043 ?_
        obtain ⟨x364, ex364, hf⟩ := hf
        refine v_iaload (pc := 2044) C ex364 dL_law_2044 ?_
        obtain ⟨b365, eb365, hf⟩ := hf
        obtain ⟨rb365, _, kb365⟩ := aIs_eq eb365
        obtain ⟨x366, h367, ex366, hf⟩ := hf
        refine v_call (pc := 2045) (d_V (pc := 2045) C (As := [.int x364]) (rest := []) rb365 kb365 nt_1 q2670 yi_X2_remove_FigureSurveyModel yk_X2_remove rfl (by decide) (by decide) (Nat.le_trans aw_0 (by decide)) rfl (mX2_remove C.st ex366) dL_law_2045) ?_
        refine v_istore (pc := 2048) (lv' := [(6, false, .int x366), (5, false, .int x361), (0, false, va_rf a0), (1, false, va_rf a1), (2, false, va_rf a2), (3, false, va_rf a3), (4, false, .int a4)]) C dL_law_2048 (by decide) rfl ?_
        refine v_aload_n (pc := 2050) (j := 4) C dL_law_2050 rfl rfl ?_
        obtain ⟨b368, eb368, hf⟩ := hf
        obtain ⟨rb368, _, kb368⟩ := aIs_eq eb368
        obtain ⟨x369, ex369, hf⟩ := hf
        refine v_call (pc := 2051) (d_V (pc := 2051) C (As := []) (rest := []) rb368 kb368 nt_1 q2487 yi_X2_thrown_FigureSurveyModel yk_X2_thrown rfl (by decide) (by decide) (Nat.le_trans aw_0 (by decide)) rfl (mX2_thrown C.st ex369) dL_law_2051) ?_
        refine v_iload (pc := 2054) (j := 1) C dL_law_2054 rfl ?_
        refine v_icmp_eq (pc := 2056) (tgt := 2061) C dL_law_2056 rfl (fun hc => ?_) (fun hc => ?_)
        · rw [if_pos hc] at hf
          refine v_iload (pc := 2061) (j := 1) C dL_law_2061 rfl ?_
          refine v_if_ne (pc := 2063) (tgt := 2078) C dL_law_2063 rfl (fun hc => ?_) (fun hc => ?_)
          · rw [if_neg hc] at hf
            refine v_goto (pc := 2078) (tgt := 3952) C dL_law_2078 rfl ?_
            exact V.sub [2, 3, 4, 5, 6] rfl (vL_p3952 L ih hf)
          · rw [if_pos (Decidable.of_not_not hc)] at hf
            refine v_aload_n (pc := 2066) (j := 5) C dL_law_2066 rfl rfl ?_
            refine v_iconst (pc := 2067) (v := (0 : Int32)) C dL_law_2067 rfl ?_
            obtain ⟨x371, ex371, hf⟩ := hf
            refine v_laload (pc := 2068) C ex371 dL_law_2068 ?_
            refine v_iload (pc := 2069) (j := 0) C dL_law_2069 rfl ?_
            refine v_i2l (pc := 2071) C dL_law_2071 ?_
            refine v_lcmp (pc := 2072) C dL_law_2072 ?_
            refine v_if_eq (pc := 2073) (tgt := 2078) C dL_law_2073 rfl (fun hc => ?_) (fun hc => ?_)
            · rw [if_pos hc] at hf
              refine v_goto (pc := 2078) (tgt := 3952) C dL_law_2078 rfl ?_
              exact V.sub [2, 3, 4, 5, 6] rfl (vL_p3952 L ih hf)
            · rw [if_neg hc] at hf
              refine v_iconst (pc := 2076) (v := (0 : Int32)) C dL_law_2076 rfl ?_
              exact hf.elim
        · rw [if_neg hc] at hf
          refine v_iconst (pc := 2059) (v := (0 : Int32)) C dL_law_2059 rfl ?_
          exact hf.elim
      rw [if_neg j25] at hf
      by_cases j26 : (x2 &&& (63 : Int32)) = (26 : Int32)
      · rw [if_pos j26] at hf
        rw [j26]
        refine v_tableIn (pc := 39) (off := 2042) (tgt := 2081) C dL_law_39 (by decide) (by decide) rfl rfl ?_
        refine v_aload_n (pc := 2081) (j := 1) C dL_law_2081 rfl rfl ?_
        refine v_aload_n (pc := 2082) (j := 0) C dL_law_2082 rfl rfl ?_
        refine v_iload (pc := 2083) (j := 4) C dL_law_2083 rfl ?_
        refine v_iconst (pc := 2085) (v := (1 : Int32)) C dL_law_2085 rfl ?_
        refine v_iadd (pc := 2086) C dL_law_2086 ?_
        obtain ⟨x348, ex348, hf⟩ := hf
        refine v_iaload (pc := 2087) C ex348 dL_law_2087 ?_
        refine v_aload_n (pc := 2088) (j := 3) C dL_law_2088 rfl rfl ?_
        obtain ⟨x349, h350, ex349, ox349, hf⟩ := hf
        refine v_wcall (pc := 2089) (As := [va_rf a1, .int x348, va_rf a3]) (rest := []) C L.2.2.2.2.2.1 q2123 q2124 q2125 q73 ⟨by decide +kernel, by decide +kernel⟩ (n9 := 3) (by decide +kernel) rfl (by decide) (by decide) (Nat.le_trans aw_0 (by decide)) rfl (mX0_standOf C.st ex349) dL_law_2089 ox349.1 (by have := L.2.1; have := ox349.2.1; omega) fun D1 h351 hs => ?_
        have L := L.step (by have := L.2.1; have := ox349.2.1; omega) hs (by have := L.2.1; have := ox349.2.2; have := L.2.2.2.2.2.2; omega)
        have hf := hf D1 h351 hs
        have C := L.1
        refine v_istore (pc := 2092) (lv' := [(5, false, .int x349), (0, false, va_rf a0), (1, false, va_rf a1), (2, false, va_rf a2), (3, false, va_rf a3), (4, false, .int a4)]) C dL_law_2092 (by decide) rfl ?_
        refine v_aload_n (pc := 2094) (j := 3) C dL_law_2094 rfl rfl ?_
        refine v_aload_n (pc := 2095) (j := 1) C dL_law_2095 rfl rfl ?_
        refine v_iload (pc := 2096) (j := 5) C dL_law_2096 rfl ?_
        refine v_iconst (pc := 2098) (v := (1 : Int32)) C dL_law_2098 rfl ?_
        refine v_iadd (pc := 2099) C dL_law_2099 ?_
        obtain ⟨x352, ex352, hf⟩ := hf
        refine v_iaload (pc := 2100) C ex352 dL_law_2100 ?_
        obtain ⟨b353, eb353, hf⟩ := hf
        obtain ⟨rb353, _, kb353⟩ := aIs_eq eb353
        obtain ⟨x354, h355, ex354, hf⟩ := hf
        refine v_call (pc := 2101) (d_V (pc := 2101) C (As := [.int x352]) (rest := []) rb353 kb353 nt_1 q2678 yi_X2_standOf_FigureSurveyModel yk_X2_standOf rfl (by decide) (by decide) (Nat.le_trans aw_0 (by decide)) rfl (mX2_standOf C.st ex354) dL_law_2101) ?_
        refine v_istore (pc := 2104) (lv' := [(6, false, .int x354), (5, false, .int x349), (0, false, va_rf a0), (1, false, va_rf a1), (2, false, va_rf a2), (3, false, va_rf a3), (4, false, .int a4)]) C dL_law_2104 (by decide) rfl ?_
        refine v_aload_n (pc := 2106) (j := 4) C dL_law_2106 rfl rfl ?_
        obtain ⟨b356, eb356, hf⟩ := hf
        obtain ⟨rb356, _, kb356⟩ := aIs_eq eb356
        obtain ⟨x357, ex357, hf⟩ := hf
        refine v_call (pc := 2107) (d_V (pc := 2107) C (As := []) (rest := []) rb356 kb356 nt_1 q2487 yi_X2_thrown_FigureSurveyModel yk_X2_thrown rfl (by decide) (by decide) (Nat.le_trans aw_0 (by decide)) rfl (mX2_thrown C.st ex357) dL_law_2107) ?_
        refine v_iload (pc := 2110) (j := 1) C dL_law_2110 rfl ?_
        refine v_icmp_eq (pc := 2112) (tgt := 2117) C dL_law_2112 rfl (fun hc => ?_) (fun hc => ?_)
        · rw [if_pos hc] at hf
          refine v_iload (pc := 2117) (j := 1) C dL_law_2117 rfl ?_
          refine v_if_ne (pc := 2119) (tgt := 2134) C dL_law_2119 rfl (fun hc => ?_) (fun hc => ?_)
          · rw [if_neg hc] at hf
            refine v_goto (pc := 2134) (tgt := 3952) C dL_law_2134 rfl ?_
            exact V.sub [2, 3, 4, 5, 6] rfl (vL_p3952 L ih hf)
          · rw [if_pos (Decidable.of_not_not hc)] at hf
            refine v_aload_n (pc := 2122) (j := 5) C dL_law_2122 rfl rfl ?_
            refine v_iconst (pc := 2123) (v := (0 : Int32)) C dL_law_2123 rfl ?_
            obtain ⟨x359, ex359, hf⟩ := hf
            refine v_laload (pc := 2124) C ex359 dL_law_2124 ?_
            refine v_iload (pc := 2125) (j := 0) C dL_law_2125 rfl ?_
            refine v_i2l (pc := 2127) C dL_law_2127 ?_
            refine v_lcmp (pc := 2128) C dL_law_2128 ?_
            refine v_if_eq (pc := 2129) (tgt := 2134) C dL_law_2129 rfl (fun hc => ?_) (fun hc => ?_)
            · rw [if_pos hc] at hf
              refine v_goto (pc := 2134) (tgt := 3952) C dL_law_2134 rfl ?_
              exact V.sub [2, 3, 4, 5, 6] rfl (vL_p3952 L ih hf)
            · rw [if_neg hc] at hf
              refine v_iconst (pc := 2132) (v := (0 : Int32)) C dL_law_2132 rfl ?_
              exact hf.elim
        · rw [if_neg hc] at hf
          refine v_iconst (pc := 2115) (v := (0 : Int32)) C dL_law_2115 rfl ?_
          exact hf.elim
      rw [if_neg j26] at hf
      by_cases j27 : (x2 &&& (63 : Int32)) = (27 : Int32)
      · rw [if_pos j27] at hf
        rw [j27]
        refine v_tableIn (pc := 39) (off := 2098) (tgt := 2137) C dL_law_39 (by decide) (by decide) rfl rfl ?_
        refine v_aload_n (pc := 2137) (j := 1) C dL_law_2137 rfl rfl ?_
        refine v_aload_n (pc := 2138) (j := 0) C dL_law_2138 rfl rfl ?_
        refine v_iload (pc := 2139) (j := 4) C dL_law_2139 rfl ?_
        refine v_iconst (pc := 2141) (v := (1 : Int32)) C dL_law_2141 rfl ?_
        refine v_iadd (pc := 2142) C dL_law_2142 ?_
        obtain ⟨x334, ex334, hf⟩ := hf
        refine v_iaload (pc := 2143) C ex334 dL_law_2143 ?_
        refine v_aload_n (pc := 2144) (j := 0) C dL_law_2144 rfl rfl ?_
        refine v_iload (pc := 2145) (j := 4) C dL_law_2145 rfl ?_
        refine v_iconst (pc := 2147) (v := (2 : Int32)) C dL_law_2147 rfl ?_
        refine v_iadd (pc := 2148) C dL_law_2148 ?_
        obtain ⟨x335, ex335, hf⟩ := hf
        refine v_iaload (pc := 2149) C ex335 dL_law_2149 ?_
        refine v_aload_n (pc := 2150) (j := 3) C dL_law_2150 rfl rfl ?_
        obtain ⟨x336, h337, ex336, ox336, hf⟩ := hf
        refine v_wcall (pc := 2151) (As := [va_rf a1, .int x334, .int x335, va_rf a3]) (rest := []) C L.2.2.2.2.2.1 q2134 q2135 q2136 q73 ⟨by decide +kernel, by decide +kernel⟩ (n9 := 4) (by decide +kernel) rfl (by decide) (by decide) (Nat.le_trans aw_0 (by decide)) rfl (mX0_orderAt C.st ex336) dL_law_2151 ox336.1 (by have := L.2.1; have := ox336.2.1; omega) fun D1 h338 hs => ?_
        have L := L.step (by have := L.2.1; have := ox336.2.1; omega) hs (by have := L.2.1; have := ox336.2.2; have := L.2.2.2.2.2.2; omega)
        have hf := hf D1 h338 hs
        have C := L.1
        refine v_istore (pc := 2154) (lv' := [(5, false, .int x336), (0, false, va_rf a0), (1, false, va_rf a1), (2, false, va_rf a2), (3, false, va_rf a3), (4, false, .int a4)]) C dL_law_2154 (by decide) rfl ?_
        refine v_aload_n (pc := 2156) (j := 3) C dL_law_2156 rfl rfl ?_
        refine v_aload_n (pc := 2157) (j := 1) C dL_law_2157 rfl rfl ?_
        refine v_iload (pc := 2158) (j := 5) C dL_law_2158 rfl ?_
        refine v_iconst (pc := 2160) (v := (1 : Int32)) C dL_law_2160 rfl ?_
        refine v_iadd (pc := 2161) C dL_law_2161 ?_
        obtain ⟨x339, ex339, hf⟩ := hf
        refine v_iaload (pc := 2162) C ex339 dL_law_2162 ?_
        refine v_aload_n (pc := 2163) (j := 1) C dL_law_2163 rfl rfl ?_
        refine v_iload (pc := 2164) (j := 5) C dL_law_2164 rfl ?_
        refine v_iconst (pc := 2166) (v := (2 : Int32)) C dL_law_2166 rfl ?_
        refine v_iadd (pc := 2167) C dL_law_2167 ?_
        obtain ⟨x340, ex340, hf⟩ := hf
        refine v_iaload (pc := 2168) C ex340 dL_law_2168 ?_
        obtain ⟨b341, eb341, hf⟩ := hf
        obtain ⟨rb341, _, kb341⟩ := aIs_eq eb341
        obtain ⟨x342, h343, ex342, hf⟩ := hf
        refine v_call (pc := 2169) (d_V (pc := 2169) C (As := [.int x339, .int x340]) (rest := []) rb341 kb341 nt_1 q2758 yi_X2_orderAt_FigureSurveyModel yk_X2_orderAt rfl (by decide) (by decide) (Nat.le_trans aw_0 (by decide)) rfl (mX2_orderAt C.st ex342) dL_law_2169) ?_
        refine v_istore (pc := 2172) (lv' := [(6, false, .int x342), (5, false, .int x336), (0, false, va_rf a0), (1, false, va_rf a1), (2, false, va_rf a2), (3, false, va_rf a3), (4, false, .int a4)]) C dL_law_2172 (by decide) rfl ?_
        refine v_aload_n (pc := 2174) (j := 4) C dL_law_2174 rfl rfl ?_
        obtain ⟨b344, eb344, hf⟩ := hf
        obtain ⟨rb344, _, kb344⟩ := aIs_eq eb344
        obtain ⟨x345, ex345, hf⟩ := hf
        refine v_call (pc := 2175) (d_V (pc := 2175) C (As := []) (rest := []) rb344 kb344 nt_1 q2487 yi_X2_thrown_FigureSurveyModel yk_X2_thrown rfl (by decide) (by decide) (Nat.le_trans aw_0 (by decide)) rfl (mX2_thrown C.st ex345) dL_law_2175) ?_
        refine v_iload (pc := 2178) (j := 1) C dL_law_2178 rfl ?_
        refine v_icmp_eq (pc := 2180) (tgt := 2185) C dL_law_2180 rfl (fun hc => ?_) (fun hc => ?_)
        · rw [if_pos hc] at hf
          refine v_iload (pc := 2185) (j := 1) C dL_law_2185 rfl ?_
          refine v_if_ne (pc := 2187) (tgt := 2202) C dL_law_2187 rfl (fun hc => ?_) (fun hc => ?_)
          · rw [if_neg hc] at hf
            refine v_goto (pc := 2202) (tgt := 3952) C dL_law_2202 rfl ?_
            exact V.sub [2, 3, 4, 5, 6] rfl (vL_p3952 L ih hf)
          · rw [if_pos (Decidable.of_not_not hc)] at hf
            refine v_aload_n (pc := 2190) (j := 5) C dL_law_2190 rfl rfl ?_
            refine v_iconst (pc := 2191) (v := (0 : Int32)) C dL_law_2191 rfl ?_
            obtain ⟨x347, ex347, hf⟩ := hf
            refine v_laload (pc := 2192) C ex347 dL_law_2192 ?_
            refine v_iload (pc := 2193) (j := 0) C dL_law_2193 rfl ?_
            refine v_i2l (pc := 2195) C dL_law_2195 ?_
            refine v_lcmp (pc := 2196) C dL_law_2196 ?_
            refine v_if_eq (pc := 2197) (tgt := 2202) C dL_law_2197 rfl (fun hc => ?_) (fun hc => ?_)
            · rw [if_pos hc] at hf
              refine v_goto (pc := 2202) (tgt := 3952) C dL_law_2202 rfl ?_
              exact V.sub [2, 3, 4, 5, 6] rfl (vL_p3952 L ih hf)
            · rw [if_neg hc] at hf
              refine v_iconst (pc := 2200) (v := (0 : Int32)) C dL_law_2200 rfl ?_
              exact hf.elim
        · rw [if_neg hc] at hf
          refine v_iconst (pc := 2183) (v := (0 : Int32)) C dL_law_2183 rfl ?_
          exact hf.elim
      rw [if_neg j27] at hf
      by_cases j28 : (x2 &&& (63 : Int32)) = (28 : Int32)
      · rw [if_pos j28] at hf
        rw [j28]
        refine v_tableIn (pc := 39) (off := 2166) (tgt := 2205) C dL_law_39 (by decide) (by decide) rfl rfl ?_
        refine v_aload_n (pc := 2205) (j := 1) C dL_law_2205 rfl rfl ?_
        refine v_aload_n (pc := 2206) (j := 0) C dL_law_2206 rfl rfl ?_
        refine v_iload (pc := 2207) (j := 4) C dL_law_2207 rfl ?_
        refine v_iconst (pc := 2209) (v := (1 : Int32)) C dL_law_2209 rfl ?_
        refine v_iadd (pc := 2210) C dL_law_2210 ?_
        obtain ⟨x322, ex322, hf⟩ := hf
        refine v_iaload (pc := 2211) C ex322 dL_law_2211 ?_
        refine v_aload_n (pc := 2212) (j := 3) C dL_law_2212 rfl rfl ?_
        obtain ⟨x323, h324, ex323, ox323, hf⟩ := hf
        refine v_wcall (pc := 2213) (As := [va_rf a1, .int x322, va_rf a3]) (rest := []) C L.2.2.2.2.2.1 q2141 q2142 q2143 q73 ⟨by decide +kernel, by decide +kernel⟩ (n9 := 3) (by decide +kernel) rfl (by decide) (by decide) (Nat.le_trans aw_0 (by decide)) rfl (mX0_brokenWeight C.st ex323) dL_law_2213 ox323.1 (by have := L.2.1; have := ox323.2.1; omega) fun D1 h325 hs => ?_
        have L := L.step (by have := L.2.1; have := ox323.2.1; omega) hs (by have := L.2.1; have := ox323.2.2; have := L.2.2.2.2.2.2; omega)
        have hf := hf D1 h325 hs
        have C := L.1
        refine v_istore (pc := 2216) (lv' := [(5, false, .int x323), (0, false, va_rf a0), (1, false, va_rf a1), (2, false, va_rf a2), (3, false, va_rf a3), (4, false, .int a4)]) C dL_law_2216 (by decide) rfl ?_
        refine v_aload_n (pc := 2218) (j := 3) C dL_law_2218 rfl rfl ?_
        refine v_aload_n (pc := 2219) (j := 1) C dL_law_2219 rfl rfl ?_
        refine v_iload (pc := 2220) (j := 5) C dL_law_2220 rfl ?_
        refine v_iconst (pc := 2222) (v := (1 : Int32)) C dL_law_2222 rfl ?_
        refine v_iadd (pc := 2223) C dL_law_2223 ?_
        obtain ⟨x326, ex326, hf⟩ := hf
        refine v_iaload (pc := 2224) C ex326 dL_law_2224 ?_
        obtain ⟨b327, eb327, hf⟩ := hf
        obtain ⟨rb327, _, kb327⟩ := aIs_eq eb327
        obtain ⟨x328, h329, ex328, hf⟩ := hf
        refine v_call (pc := 2225) (d_V (pc := 2225) C (As := [.int x326]) (rest := []) rb327 kb327 nt_1 q2762 yi_X2_brokenWeight_FigureSurveyModel yk_X2_brokenWeight rfl (by decide) (by decide) (Nat.le_trans aw_0 (by decide)) rfl (mX2_brokenWeight C.st ex328) dL_law_2225) ?_
        refine v_istore (pc := 2228) (lv' := [(6, false, .int x328), (5, false, .int x323), (0, false, va_rf a0), (1, false, va_rf a1), (2, false, va_rf a2), (3, false, va_rf a3), (4, false, .int a4)]) C dL_law_2228 (by decide) rfl ?_
        refine v_aload_n (pc := 2230) (j := 4) C dL_law_2230 rfl rfl ?_
        obtain ⟨b330, eb330, hf⟩ := hf
        obtain ⟨rb330, _, kb330⟩ := aIs_eq eb330
        obtain ⟨x331, ex331, hf⟩ := hf
        refine v_call (pc := 2231) (d_V (pc := 2231) C (As := []) (rest := []) rb330 kb330 nt_1 q2487 yi_X2_thrown_FigureSurveyModel yk_X2_thrown rfl (by decide) (by decide) (Nat.le_trans aw_0 (by decide)) rfl (mX2_thrown C.st ex331) dL_law_2231) ?_
        refine v_iload (pc := 2234) (j := 1) C dL_law_2234 rfl ?_
        refine v_icmp_eq (pc := 2236) (tgt := 2241) C dL_law_2236 rfl (fun hc => ?_) (fun hc => ?_)
        · rw [if_pos hc] at hf
          refine v_iload (pc := 2241) (j := 1) C dL_law_2241 rfl ?_
          refine v_if_ne (pc := 2243) (tgt := 2258) C dL_law_2243 rfl (fun hc => ?_) (fun hc => ?_)
          · rw [if_neg hc] at hf
            refine v_goto (pc := 2258) (tgt := 3952) C dL_law_2258 rfl ?_
            exact V.sub [2, 3, 4, 5, 6] rfl (vL_p3952 L ih hf)
          · rw [if_pos (Decidable.of_not_not hc)] at hf
            refine v_aload_n (pc := 2246) (j := 5) C dL_law_2246 rfl rfl ?_
            refine v_iconst (pc := 2247) (v := (0 : Int32)) C dL_law_2247 rfl ?_
            obtain ⟨x333, ex333, hf⟩ := hf
            refine v_laload (pc := 2248) C ex333 dL_law_2248 ?_
            refine v_iload (pc := 2249) (j := 0) C dL_law_2249 rfl ?_
            refine v_i2l (pc := 2251) C dL_law_2251 ?_
            refine v_lcmp (pc := 2252) C dL_law_2252 ?_
            refine v_if_eq (pc := 2253) (tgt := 2258) C dL_law_2253 rfl (fun hc => ?_) (fun hc => ?_)
            · rw [if_pos hc] at hf
              refine v_goto (pc := 2258) (tgt := 3952) C dL_law_2258 rfl ?_
              exact V.sub [2, 3, 4, 5, 6] rfl (vL_p3952 L ih hf)
            · rw [if_neg hc] at hf
              refine v_iconst (pc := 2256) (v := (0 : Int32)) C dL_law_2256 rfl ?_
              exact hf.elim
        · rw [if_neg hc] at hf
          refine v_iconst (pc := 2239) (v := (0 : Int32)) C dL_law_2239 rfl ?_
          exact hf.elim
      rw [if_neg j28] at hf
      by_cases j29 : (x2 &&& (63 : Int32)) = (29 : Int32)
      · rw [if_pos j29] at hf
        rw [j29]
        refine v_tableIn (pc := 39) (off := 2222) (tgt := 2261) C dL_law_39 (by decide) (by decide) rfl rfl ?_
        refine v_aload_n (pc := 2261) (j := 1) C dL_law_2261 rfl rfl ?_
        refine v_aload_n (pc := 2262) (j := 0) C dL_law_2262 rfl rfl ?_
        refine v_iload (pc := 2263) (j := 4) C dL_law_2263 rfl ?_
        refine v_iconst (pc := 2265) (v := (1 : Int32)) C dL_law_2265 rfl ?_
        refine v_iadd (pc := 2266) C dL_law_2266 ?_
        obtain ⟨x308, ex308, hf⟩ := hf
        refine v_iaload (pc := 2267) C ex308 dL_law_2267 ?_
        refine v_aload_n (pc := 2268) (j := 0) C dL_law_2268 rfl rfl ?_
        refine v_iload (pc := 2269) (j := 4) C dL_law_2269 rfl ?_
        refine v_iconst (pc := 2271) (v := (2 : Int32)) C dL_law_2271 rfl ?_
        refine v_iadd (pc := 2272) C dL_law_2272 ?_
        obtain ⟨x309, ex309, hf⟩ := hf
        refine v_iaload (pc := 2273) C ex309 dL_law_2273 ?_
        refine v_aload_n (pc := 2274) (j := 3) C dL_law_2274 rfl rfl ?_
        obtain ⟨x310, h311, ex310, ox310, hf⟩ := hf
        refine v_wcall (pc := 2275) (As := [va_rf a1, .int x308, .int x309, va_rf a3]) (rest := []) C L.2.2.2.2.2.1 q2149 q2150 q2151 q73 ⟨by decide +kernel, by decide +kernel⟩ (n9 := 4) (by decide +kernel) rfl (by decide) (by decide) (Nat.le_trans aw_0 (by decide)) rfl (mX0_isAbove C.st ex310) dL_law_2275 ox310.1 (by have := L.2.1; have := ox310.2.1; omega) fun D1 h312 hs => ?_
        have L := L.step (by have := L.2.1; have := ox310.2.1; omega) hs (by have := L.2.1; have := ox310.2.2; have := L.2.2.2.2.2.2; omega)
        have hf := hf D1 h312 hs
        have C := L.1
        refine v_istore (pc := 2278) (lv' := [(5, false, .int x310), (0, false, va_rf a0), (1, false, va_rf a1), (2, false, va_rf a2), (3, false, va_rf a3), (4, false, .int a4)]) C dL_law_2278 (by decide) rfl ?_
        refine v_aload_n (pc := 2280) (j := 3) C dL_law_2280 rfl rfl ?_
        refine v_aload_n (pc := 2281) (j := 1) C dL_law_2281 rfl rfl ?_
        refine v_iload (pc := 2282) (j := 5) C dL_law_2282 rfl ?_
        refine v_iconst (pc := 2284) (v := (1 : Int32)) C dL_law_2284 rfl ?_
        refine v_iadd (pc := 2285) C dL_law_2285 ?_
        obtain ⟨x313, ex313, hf⟩ := hf
        refine v_iaload (pc := 2286) C ex313 dL_law_2286 ?_
        refine v_aload_n (pc := 2287) (j := 1) C dL_law_2287 rfl rfl ?_
        refine v_iload (pc := 2288) (j := 5) C dL_law_2288 rfl ?_
        refine v_iconst (pc := 2290) (v := (2 : Int32)) C dL_law_2290 rfl ?_
        refine v_iadd (pc := 2291) C dL_law_2291 ?_
        obtain ⟨x314, ex314, hf⟩ := hf
        refine v_iaload (pc := 2292) C ex314 dL_law_2292 ?_
        obtain ⟨b315, eb315, hf⟩ := hf
        obtain ⟨rb315, _, kb315⟩ := aIs_eq eb315
        obtain ⟨x316, h317, ex316, hf⟩ := hf
        refine v_call (pc := 2293) (d_V (pc := 2293) C (As := [.int x313, .int x314]) (rest := []) rb315 kb315 nt_1 q2770 yi_X2_isAbove_FigureSurveyModel yk_X2_isAbove rfl (by decide) (by decide) (Nat.le_trans aw_0 (by decide)) rfl (mX2_isAbove C.st ex316) dL_law_2293) ?_
        refine v_istore (pc := 2296) (lv' := [(6, false, .int x316), (5, false, .int x310), (0, false, va_rf a0), (1, false, va_rf a1), (2, false, va_rf a2), (3, false, va_rf a3), (4, false, .int a4)]) C dL_law_2296 (by decide) rfl ?_
        refine v_aload_n (pc := 2298) (j := 4) C dL_law_2298 rfl rfl ?_
        obtain ⟨b318, eb318, hf⟩ := hf
        obtain ⟨rb318, _, kb318⟩ := aIs_eq eb318
        obtain ⟨x319, ex319, hf⟩ := hf
        refine v_call (pc := 2299) (d_V (pc := 2299) C (As := []) (rest := []) rb318 kb318 nt_1 q2487 yi_X2_thrown_FigureSurveyModel yk_X2_thrown rfl (by decide) (by decide) (Nat.le_trans aw_0 (by decide)) rfl (mX2_thrown C.st ex319) dL_law_2299) ?_
        refine v_iload (pc := 2302) (j := 1) C dL_law_2302 rfl ?_
        refine v_icmp_eq (pc := 2304) (tgt := 2309) C dL_law_2304 rfl (fun hc => ?_) (fun hc => ?_)
        · rw [if_pos hc] at hf
          refine v_iload (pc := 2309) (j := 1) C dL_law_2309 rfl ?_
          refine v_if_ne (pc := 2311) (tgt := 2333) C dL_law_2311 rfl (fun hc => ?_) (fun hc => ?_)
          · rw [if_neg hc] at hf
            refine v_goto (pc := 2333) (tgt := 3952) C dL_law_2333 rfl ?_
            exact V.sub [2, 3, 4, 5, 6] rfl (vL_p3952 L ih hf)
          · rw [if_pos (Decidable.of_not_not hc)] at hf
            refine v_aload_n (pc := 2314) (j := 5) C dL_law_2314 rfl rfl ?_
            refine v_iconst (pc := 2315) (v := (0 : Int32)) C dL_law_2315 rfl ?_
            obtain ⟨x321, ex321, hf⟩ := hf
            refine v_laload (pc := 2316) C ex321 dL_law_2316 ?_
            refine v_iload (pc := 2317) (j := 0) C dL_law_2317 rfl ?_
            refine v_if_eq (pc := 2319) (tgt := 2326) C dL_law_2319 rfl (fun hc => ?_) (fun hc => ?_)
            · rw [if_pos hc] at hf
              refine v_lconst (pc := 2326) (v := (0 : Int64)) C dL_law_2326 rfl ?_
              exact V.sub [2, 3, 4, 5, 6] rfl (vL_p2327 L ih hf)
            · rw [if_neg hc] at hf
              refine v_lconst (pc := 2322) (v := (1 : Int64)) C dL_law_2322 rfl ?_
              refine v_goto (pc := 2323) (tgt := 2327) C dL_law_2323 rfl ?_
              exact V.sub [2, 3, 4, 5, 6] rfl (vL_p2327 L ih hf)
        · rw [if_neg hc] at hf
          refine v_iconst (pc := 2307) (v := (0 : Int32)) C dL_law_2307 rfl ?_
          exact hf.elim
      rw [if_neg j29] at hf
      by_cases j30 : (x2 &&& (63 : Int32)) = (30 : Int32)
      · rw [if_pos j30] at hf
        rw [j30]
        refine v_tableIn (pc := 39) (off := 2297) (tgt := 2336) C dL_law_39 (by decide) (by decide) rfl rfl ?_
        refine v_aload_n (pc := 2336) (j := 1) C dL_law_2336 rfl rfl ?_
        refine v_aload_n (pc := 2337) (j := 0) C dL_law_2337 rfl rfl ?_
        refine v_iload (pc := 2338) (j := 4) C dL_law_2338 rfl ?_
        refine v_iconst (pc := 2340) (v := (1 : Int32)) C dL_law_2340 rfl ?_
        refine v_iadd (pc := 2341) C dL_law_2341 ?_
        obtain ⟨x296, ex296, hf⟩ := hf
        refine v_iaload (pc := 2342) C ex296 dL_law_2342 ?_
        refine v_aload_n (pc := 2343) (j := 3) C dL_law_2343 rfl rfl ?_
        obtain ⟨x297, h298, ex297, ox297, hf⟩ := hf
        refine v_wcall (pc := 2344) (As := [va_rf a1, .int x296, va_rf a3]) (rest := []) C L.2.2.2.2.2.1 q2157 q2158 q2159 q73 ⟨by decide +kernel, by decide +kernel⟩ (n9 := 3) (by decide +kernel) rfl (by decide) (by decide) (Nat.le_trans aw_0 (by decide)) rfl (mX0_earliest C.st ex297) dL_law_2344 ox297.1 (by have := L.2.1; have := ox297.2.1; omega) fun D1 h299 hs => ?_
        have L := L.step (by have := L.2.1; have := ox297.2.1; omega) hs (by have := L.2.1; have := ox297.2.2; have := L.2.2.2.2.2.2; omega)
        have hf := hf D1 h299 hs
        have C := L.1
        refine v_istore (pc := 2347) (lv' := [(5, false, .int x297), (0, false, va_rf a0), (1, false, va_rf a1), (2, false, va_rf a2), (3, false, va_rf a3), (4, false, .int a4)]) C dL_law_2347 (by decide) rfl ?_
        refine v_aload_n (pc := 2349) (j := 3) C dL_law_2349 rfl rfl ?_
        refine v_aload_n (pc := 2350) (j := 1) C dL_law_2350 rfl rfl ?_
        refine v_iload (pc := 2351) (j := 5) C dL_law_2351 rfl ?_
        refine v_iconst (pc := 2353) (v := (1 : Int32)) C dL_law_2353 rfl ?_
        refine v_iadd (pc := 2354) C dL_law_2354 ?_
        obtain ⟨x300, ex300, hf⟩ := hf
        refine v_iaload (pc := 2355) C ex300 dL_law_2355 ?_
        obtain ⟨b301, eb301, hf⟩ := hf
        obtain ⟨rb301, _, kb301⟩ := aIs_eq eb301
        obtain ⟨x302, h303, ex302, hf⟩ := hf
        refine v_call (pc := 2356) (d_V (pc := 2356) C (As := [.int x300]) (rest := []) rb301 kb301 nt_1 q2775 yi_X2_earliest_FigureSurveyModel yk_X2_earliest rfl (by decide) (by decide) (Nat.le_trans aw_0 (by decide)) rfl (mX2_earliest C.st ex302) dL_law_2356) ?_
        refine v_istore (pc := 2359) (lv' := [(6, false, .int x302), (5, false, .int x297), (0, false, va_rf a0), (1, false, va_rf a1), (2, false, va_rf a2), (3, false, va_rf a3), (4, false, .int a4)]) C dL_law_2359 (by decide) rfl ?_
        refine v_aload_n (pc := 2361) (j := 4) C dL_law_2361 rfl rfl ?_
        obtain ⟨b304, eb304, hf⟩ := hf
        obtain ⟨rb304, _, kb304⟩ := aIs_eq eb304
        obtain ⟨x305, ex305, hf⟩ := hf
        refine v_call (pc := 2362) (d_V (pc := 2362) C (As := []) (rest := []) rb304 kb304 nt_1 q2487 yi_X2_thrown_FigureSurveyModel yk_X2_thrown rfl (by decide) (by decide) (Nat.le_trans aw_0 (by decide)) rfl (mX2_thrown C.st ex305) dL_law_2362) ?_
        refine v_iload (pc := 2365) (j := 1) C dL_law_2365 rfl ?_
        refine v_icmp_eq (pc := 2367) (tgt := 2372) C dL_law_2367 rfl (fun hc => ?_) (fun hc => ?_)
        · rw [if_pos hc] at hf
          refine v_iload (pc := 2372) (j := 1) C dL_law_2372 rfl ?_
          refine v_if_ne (pc := 2374) (tgt := 2389) C dL_law_2374 rfl (fun hc => ?_) (fun hc => ?_)
          · rw [if_neg hc] at hf
            refine v_goto (pc := 2389) (tgt := 3952) C dL_law_2389 rfl ?_
            exact V.sub [2, 3, 4, 5, 6] rfl (vL_p3952 L ih hf)
          · rw [if_pos (Decidable.of_not_not hc)] at hf
            refine v_aload_n (pc := 2377) (j := 5) C dL_law_2377 rfl rfl ?_
            refine v_iconst (pc := 2378) (v := (0 : Int32)) C dL_law_2378 rfl ?_
            obtain ⟨x307, ex307, hf⟩ := hf
            refine v_laload (pc := 2379) C ex307 dL_law_2379 ?_
            refine v_iload (pc := 2380) (j := 0) C dL_law_2380 rfl ?_
            refine v_i2l (pc := 2382) C dL_law_2382 ?_
            refine v_lcmp (pc := 2383) C dL_law_2383 ?_
            refine v_if_eq (pc := 2384) (tgt := 2389) C dL_law_2384 rfl (fun hc => ?_) (fun hc => ?_)
            · rw [if_pos hc] at hf
              refine v_goto (pc := 2389) (tgt := 3952) C dL_law_2389 rfl ?_
              exact V.sub [2, 3, 4, 5, 6] rfl (vL_p3952 L ih hf)
            · rw [if_neg hc] at hf
              refine v_iconst (pc := 2387) (v := (0 : Int32)) C dL_law_2387 rfl ?_
              exact hf.elim
        · rw [if_neg hc] at hf
          refine v_iconst (pc := 2370) (v := (0 : Int32)) C dL_law_2370 rfl ?_
          exact hf.elim
      rw [if_neg j30] at hf
      by_cases j31 : (x2 &&& (63 : Int32)) = (31 : Int32)
      · rw [if_pos j31] at hf
        rw [j31]
        refine v_tableIn (pc := 39) (off := 2353) (tgt := 2392) C dL_law_39 (by decide) (by decide) rfl rfl ?_
        refine v_aload_n (pc := 2392) (j := 1) C dL_law_2392 rfl rfl ?_
        refine v_aload_n (pc := 2393) (j := 0) C dL_law_2393 rfl rfl ?_
        refine v_iload (pc := 2394) (j := 4) C dL_law_2394 rfl ?_
        refine v_iconst (pc := 2396) (v := (1 : Int32)) C dL_law_2396 rfl ?_
        refine v_iadd (pc := 2397) C dL_law_2397 ?_
        obtain ⟨x284, ex284, hf⟩ := hf
        refine v_iaload (pc := 2398) C ex284 dL_law_2398 ?_
        refine v_aload_n (pc := 2399) (j := 3) C dL_law_2399 rfl rfl ?_
        obtain ⟨x285, h286, ex285, ox285, hf⟩ := hf
        refine v_wcall (pc := 2400) (As := [va_rf a1, .int x284, va_rf a3]) (rest := []) C L.2.2.2.2.2.1 q2164 q2165 q2166 q73 ⟨by decide +kernel, by decide +kernel⟩ (n9 := 3) (by decide +kernel) rfl (by decide) (by decide) (Nat.le_trans aw_0 (by decide)) rfl (mX0_latest C.st ex285) dL_law_2400 ox285.1 (by have := L.2.1; have := ox285.2.1; omega) fun D1 h287 hs => ?_
        have L := L.step (by have := L.2.1; have := ox285.2.1; omega) hs (by have := L.2.1; have := ox285.2.2; have := L.2.2.2.2.2.2; omega)
        have hf := hf D1 h287 hs
        have C := L.1
        refine v_istore (pc := 2403) (lv' := [(5, false, .int x285), (0, false, va_rf a0), (1, false, va_rf a1), (2, false, va_rf a2), (3, false, va_rf a3), (4, false, .int a4)]) C dL_law_2403 (by decide) rfl ?_
        refine v_aload_n (pc := 2405) (j := 3) C dL_law_2405 rfl rfl ?_
        refine v_aload_n (pc := 2406) (j := 1) C dL_law_2406 rfl rfl ?_
        refine v_iload (pc := 2407) (j := 5) C dL_law_2407 rfl ?_
        refine v_iconst (pc := 2409) (v := (1 : Int32)) C dL_law_2409 rfl ?_
        refine v_iadd (pc := 2410) C dL_law_2410 ?_
        obtain ⟨x288, ex288, hf⟩ := hf
        refine v_iaload (pc := 2411) C ex288 dL_law_2411 ?_
        obtain ⟨b289, eb289, hf⟩ := hf
        obtain ⟨rb289, _, kb289⟩ := aIs_eq eb289
        obtain ⟨x290, h291, ex290, hf⟩ := hf
        refine v_call (pc := 2412) (d_V (pc := 2412) C (As := [.int x288]) (rest := []) rb289 kb289 nt_1 q2788 yi_X2_latest_FigureSurveyModel yk_X2_latest rfl (by decide) (by decide) (Nat.le_trans aw_0 (by decide)) rfl (mX2_latest C.st ex290) dL_law_2412) ?_
        refine v_istore (pc := 2415) (lv' := [(6, false, .int x290), (5, false, .int x285), (0, false, va_rf a0), (1, false, va_rf a1), (2, false, va_rf a2), (3, false, va_rf a3), (4, false, .int a4)]) C dL_law_2415 (by decide) rfl ?_
        refine v_aload_n (pc := 2417) (j := 4) C dL_law_2417 rfl rfl ?_
        obtain ⟨b292, eb292, hf⟩ := hf
        obtain ⟨rb292, _, kb292⟩ := aIs_eq eb292
        obtain ⟨x293, ex293, hf⟩ := hf
        refine v_call (pc := 2418) (d_V (pc := 2418) C (As := []) (rest := []) rb292 kb292 nt_1 q2487 yi_X2_thrown_FigureSurveyModel yk_X2_thrown rfl (by decide) (by decide) (Nat.le_trans aw_0 (by decide)) rfl (mX2_thrown C.st ex293) dL_law_2418) ?_
        refine v_iload (pc := 2421) (j := 1) C dL_law_2421 rfl ?_
        refine v_icmp_eq (pc := 2423) (tgt := 2428) C dL_law_2423 rfl (fun hc => ?_) (fun hc => ?_)
        · rw [if_pos hc] at hf
          refine v_iload (pc := 2428) (j := 1) C dL_law_2428 rfl ?_
          refine v_if_ne (pc := 2430) (tgt := 2445) C dL_law_2430 rfl (fun hc => ?_) (fun hc => ?_)
          · rw [if_neg hc] at hf
            refine v_goto (pc := 2445) (tgt := 3952) C dL_law_2445 rfl ?_
            exact V.sub [2, 3, 4, 5, 6] rfl (vL_p3952 L ih hf)
          · rw [if_pos (Decidable.of_not_not hc)] at hf
            refine v_aload_n (pc := 2433) (j := 5) C dL_law_2433 rfl rfl ?_
            refine v_iconst (pc := 2434) (v := (0 : Int32)) C dL_law_2434 rfl ?_
            obtain ⟨x295, ex295, hf⟩ := hf
            refine v_laload (pc := 2435) C ex295 dL_law_2435 ?_
            refine v_iload (pc := 2436) (j := 0) C dL_law_2436 rfl ?_
            refine v_i2l (pc := 2438) C dL_law_2438 ?_
            refine v_lcmp (pc := 2439) C dL_law_2439 ?_
            refine v_if_eq (pc := 2440) (tgt := 2445) C dL_law_2440 rfl (fun hc => ?_) (fun hc => ?_)
            · rw [if_pos hc] at hf
              refine v_goto (pc := 2445) (tgt := 3952) C dL_law_2445 rfl ?_
              exact V.sub [2, 3, 4, 5, 6] rfl (vL_p3952 L ih hf)
            · rw [if_neg hc] at hf
              refine v_iconst (pc := 2443) (v := (0 : Int32)) C dL_law_2443 rfl ?_
              exact hf.elim
        · rw [if_neg hc] at hf
          refine v_iconst (pc := 2426) (v := (0 : Int32)) C dL_law_2426 rfl ?_
          exact hf.elim
      rw [if_neg j31] at hf
      by_cases j32 : (x2 &&& (63 : Int32)) = (32 : Int32)
      · rw [if_pos j32] at hf
        rw [j32]
        refine v_tableIn (pc := 39) (off := 2409) (tgt := 2448) C dL_law_39 (by decide) (by decide) rfl rfl ?_
        refine v_aload_n (pc := 2448) (j := 1) C dL_law_2448 rfl rfl ?_
        refine v_aload_n (pc := 2449) (j := 0) C dL_law_2449 rfl rfl ?_
        refine v_iload (pc := 2450) (j := 4) C dL_law_2450 rfl ?_
        refine v_iconst (pc := 2452) (v := (1 : Int32)) C dL_law_2452 rfl ?_
        refine v_iadd (pc := 2453) C dL_law_2453 ?_
        obtain ⟨x282, ex282, hf⟩ := hf
        refine v_iaload (pc := 2454) C ex282 dL_law_2454 ?_
        refine v_aload_n (pc := 2455) (j := 0) C dL_law_2455 rfl rfl ?_
        refine v_iload (pc := 2456) (j := 4) C dL_law_2456 rfl ?_
        refine v_iconst (pc := 2458) (v := (2 : Int32)) C dL_law_2458 rfl ?_
        refine v_iadd (pc := 2459) C dL_law_2459 ?_
        obtain ⟨x283, ex283, hf⟩ := hf
        refine v_iaload (pc := 2460) C ex283 dL_law_2460 ?_
        refine v_if_eq (pc := 2461) (tgt := 2468) C dL_law_2461 rfl (fun hc => ?_) (fun hc => ?_)
        · rw [if_pos hc] at hf
          refine v_iconst (pc := 2468) (v := (0 : Int32)) C dL_law_2468 rfl ?_
          exact V.sub [0, 1, 2, 3, 4] rfl (vL_p2469 L ih hf)
        · rw [if_neg hc] at hf
          refine v_iconst (pc := 2464) (v := (1 : Int32)) C dL_law_2464 rfl ?_
          refine v_goto (pc := 2465) (tgt := 2469) C dL_law_2465 rfl ?_
          exact V.sub [0, 1, 2, 3, 4] rfl (vL_p2469 L ih hf)
      rw [if_neg j32] at hf
      by_cases j33 : (x2 &&& (63 : Int32)) = (33 : Int32)
      · rw [if_pos j33] at hf
        rw [j33]
        refine v_tableIn (pc := 39) (off := 2493) (tgt := 2532) C dL_law_39 (by decide) (by decide) rfl rfl ?_
        refine v_aload_n (pc := 2532) (j := 1) C dL_law_2532 rfl rfl ?_
        refine v_aload_n (pc := 2533) (j := 0) C dL_law_2533 rfl rfl ?_
        refine v_iload (pc := 2534) (j := 4) C dL_law_2534 rfl ?_
        refine v_iconst (pc := 2536) (v := (1 : Int32)) C dL_law_2536 rfl ?_
        refine v_iadd (pc := 2537) C dL_law_2537 ?_
        obtain ⟨x268, ex268, hf⟩ := hf
        refine v_iaload (pc := 2538) C ex268 dL_law_2538 ?_
        refine v_aload_n (pc := 2539) (j := 0) C dL_law_2539 rfl rfl ?_
        refine v_iload (pc := 2540) (j := 4) C dL_law_2540 rfl ?_
        refine v_iconst (pc := 2542) (v := (2 : Int32)) C dL_law_2542 rfl ?_
        refine v_iadd (pc := 2543) C dL_law_2543 ?_
        obtain ⟨x269, ex269, hf⟩ := hf
        refine v_iaload (pc := 2544) C ex269 dL_law_2544 ?_
        refine v_aload_n (pc := 2545) (j := 3) C dL_law_2545 rfl rfl ?_
        obtain ⟨x270, h271, ex270, ox270, hf⟩ := hf
        refine v_wcall (pc := 2546) (As := [va_rf a1, .int x268, .int x269, va_rf a3]) (rest := []) C L.2.2.2.2.2.1 q2179 q2180 q2181 q73 ⟨by decide +kernel, by decide +kernel⟩ (n9 := 4) (by decide +kernel) rfl (by decide) (by decide) (Nat.le_trans aw_0 (by decide)) rfl (mX0_setFeatures C.st ex270) dL_law_2546 ox270.1 (by have := L.2.1; have := ox270.2.1; omega) fun D1 h272 hs => ?_
        have L := L.step (by have := L.2.1; have := ox270.2.1; omega) hs (by have := L.2.1; have := ox270.2.2; have := L.2.2.2.2.2.2; omega)
        have hf := hf D1 h272 hs
        have C := L.1
        refine v_istore (pc := 2549) (lv' := [(5, false, .int x270), (0, false, va_rf a0), (1, false, va_rf a1), (2, false, va_rf a2), (3, false, va_rf a3), (4, false, .int a4)]) C dL_law_2549 (by decide) rfl ?_
        refine v_aload_n (pc := 2551) (j := 3) C dL_law_2551 rfl rfl ?_
        refine v_aload_n (pc := 2552) (j := 1) C dL_law_2552 rfl rfl ?_
        refine v_iload (pc := 2553) (j := 5) C dL_law_2553 rfl ?_
        refine v_iconst (pc := 2555) (v := (1 : Int32)) C dL_law_2555 rfl ?_
        refine v_iadd (pc := 2556) C dL_law_2556 ?_
        obtain ⟨x273, ex273, hf⟩ := hf
        refine v_iaload (pc := 2557) C ex273 dL_law_2557 ?_
        refine v_aload_n (pc := 2558) (j := 1) C dL_law_2558 rfl rfl ?_
        refine v_iload (pc := 2559) (j := 5) C dL_law_2559 rfl ?_
        refine v_iconst (pc := 2561) (v := (2 : Int32)) C dL_law_2561 rfl ?_
        refine v_iadd (pc := 2562) C dL_law_2562 ?_
        obtain ⟨x274, ex274, hf⟩ := hf
        refine v_iaload (pc := 2563) C ex274 dL_law_2563 ?_
        obtain ⟨b275, eb275, hf⟩ := hf
        obtain ⟨rb275, _, kb275⟩ := aIs_eq eb275
        obtain ⟨x276, h277, ex276, hf⟩ := hf
        refine v_call (pc := 2564) (d_V (pc := 2564) C (As := [.int x273, .int x274]) (rest := []) rb275 kb275 nt_1 q2796 yi_X2_setFeatures_FigureSurveyModel yk_X2_setFeatures rfl (by decide) (by decide) (Nat.le_trans aw_0 (by decide)) rfl (mX2_setFeatures C.st ex276) dL_law_2564) ?_
        refine v_istore (pc := 2567) (lv' := [(6, false, .int x276), (5, false, .int x270), (0, false, va_rf a0), (1, false, va_rf a1), (2, false, va_rf a2), (3, false, va_rf a3), (4, false, .int a4)]) C dL_law_2567 (by decide) rfl ?_
        refine v_aload_n (pc := 2569) (j := 4) C dL_law_2569 rfl rfl ?_
        obtain ⟨b278, eb278, hf⟩ := hf
        obtain ⟨rb278, _, kb278⟩ := aIs_eq eb278
        obtain ⟨x279, ex279, hf⟩ := hf
        refine v_call (pc := 2570) (d_V (pc := 2570) C (As := []) (rest := []) rb278 kb278 nt_1 q2487 yi_X2_thrown_FigureSurveyModel yk_X2_thrown rfl (by decide) (by decide) (Nat.le_trans aw_0 (by decide)) rfl (mX2_thrown C.st ex279) dL_law_2570) ?_
        refine v_iload (pc := 2573) (j := 1) C dL_law_2573 rfl ?_
        refine v_icmp_eq (pc := 2575) (tgt := 2580) C dL_law_2575 rfl (fun hc => ?_) (fun hc => ?_)
        · rw [if_pos hc] at hf
          refine v_iload (pc := 2580) (j := 1) C dL_law_2580 rfl ?_
          refine v_if_ne (pc := 2582) (tgt := 2597) C dL_law_2582 rfl (fun hc => ?_) (fun hc => ?_)
          · rw [if_neg hc] at hf
            refine v_goto (pc := 2597) (tgt := 3952) C dL_law_2597 rfl ?_
            exact V.sub [2, 3, 4, 5, 6] rfl (vL_p3952 L ih hf)
          · rw [if_pos (Decidable.of_not_not hc)] at hf
            refine v_aload_n (pc := 2585) (j := 5) C dL_law_2585 rfl rfl ?_
            refine v_iconst (pc := 2586) (v := (0 : Int32)) C dL_law_2586 rfl ?_
            obtain ⟨x281, ex281, hf⟩ := hf
            refine v_laload (pc := 2587) C ex281 dL_law_2587 ?_
            refine v_iload (pc := 2588) (j := 0) C dL_law_2588 rfl ?_
            refine v_i2l (pc := 2590) C dL_law_2590 ?_
            refine v_lcmp (pc := 2591) C dL_law_2591 ?_
            refine v_if_eq (pc := 2592) (tgt := 2597) C dL_law_2592 rfl (fun hc => ?_) (fun hc => ?_)
            · rw [if_pos hc] at hf
              refine v_goto (pc := 2597) (tgt := 3952) C dL_law_2597 rfl ?_
              exact V.sub [2, 3, 4, 5, 6] rfl (vL_p3952 L ih hf)
            · rw [if_neg hc] at hf
              refine v_iconst (pc := 2595) (v := (0 : Int32)) C dL_law_2595 rfl ?_
              exact hf.elim
        · rw [if_neg hc] at hf
          refine v_iconst (pc := 2578) (v := (0 : Int32)) C dL_law_2578 rfl ?_
          exact hf.elim
      rw [if_neg j33] at hf
      by_cases j34 : (x2 &&& (63 : Int32)) = (34 : Int32)
      · rw [if_pos j34] at hf
        rw [j34]
        refine v_tableIn (pc := 39) (off := 2561) (tgt := 2600) C dL_law_39 (by decide) (by decide) rfl rfl ?_
        refine v_aload_n (pc := 2600) (j := 1) C dL_law_2600 rfl rfl ?_
        refine v_aload_n (pc := 2601) (j := 0) C dL_law_2601 rfl rfl ?_
        refine v_iload (pc := 2602) (j := 4) C dL_law_2602 rfl ?_
        refine v_iconst (pc := 2604) (v := (1 : Int32)) C dL_law_2604 rfl ?_
        refine v_iadd (pc := 2605) C dL_law_2605 ?_
        obtain ⟨x256, ex256, hf⟩ := hf
        refine v_iaload (pc := 2606) C ex256 dL_law_2606 ?_
        refine v_aload_n (pc := 2607) (j := 3) C dL_law_2607 rfl rfl ?_
        obtain ⟨x257, h258, ex257, ox257, hf⟩ := hf
        refine v_wcall (pc := 2608) (As := [va_rf a1, .int x256, va_rf a3]) (rest := []) C L.2.2.2.2.2.1 q2197 q2198 q2199 q73 ⟨by decide +kernel, by decide +kernel⟩ (n9 := 3) (by decide +kernel) rfl (by decide) (by decide) (Nat.le_trans aw_0 (by decide)) rfl (mX0_addStyle C.st ex257) dL_law_2608 ox257.1 (by have := L.2.1; have := ox257.2.1; omega) fun D1 h259 hs => ?_
        have L := L.step (by have := L.2.1; have := ox257.2.1; omega) hs (by have := L.2.1; have := ox257.2.2; have := L.2.2.2.2.2.2; omega)
        have hf := hf D1 h259 hs
        have C := L.1
        refine v_istore (pc := 2611) (lv' := [(5, false, .int x257), (0, false, va_rf a0), (1, false, va_rf a1), (2, false, va_rf a2), (3, false, va_rf a3), (4, false, .int a4)]) C dL_law_2611 (by decide) rfl ?_
        refine v_aload_n (pc := 2613) (j := 3) C dL_law_2613 rfl rfl ?_
        refine v_aload_n (pc := 2614) (j := 1) C dL_law_2614 rfl rfl ?_
        refine v_iload (pc := 2615) (j := 5) C dL_law_2615 rfl ?_
        refine v_iconst (pc := 2617) (v := (1 : Int32)) C dL_law_2617 rfl ?_
        refine v_iadd (pc := 2618) C dL_law_2618 ?_
        obtain ⟨x260, ex260, hf⟩ := hf
        refine v_iaload (pc := 2619) C ex260 dL_law_2619 ?_
        obtain ⟨b261, eb261, hf⟩ := hf
        obtain ⟨rb261, _, kb261⟩ := aIs_eq eb261
        obtain ⟨x262, h263, ex262, hf⟩ := hf
        refine v_call (pc := 2620) (d_V (pc := 2620) C (As := [.int x260]) (rest := []) rb261 kb261 nt_1 q2810 yi_X2_addStyle_FigureSurveyModel yk_X2_addStyle rfl (by decide) (by decide) (Nat.le_trans aw_0 (by decide)) rfl (mX2_addStyle C.st ex262) dL_law_2620) ?_
        refine v_istore (pc := 2623) (lv' := [(6, false, .int x262), (5, false, .int x257), (0, false, va_rf a0), (1, false, va_rf a1), (2, false, va_rf a2), (3, false, va_rf a3), (4, false, .int a4)]) C dL_law_2623 (by decide) rfl ?_
        refine v_aload_n (pc := 2625) (j := 4) C dL_law_2625 rfl rfl ?_
        obtain ⟨b264, eb264, hf⟩ := hf
        obtain ⟨rb264, _, kb264⟩ := aIs_eq eb264
        obtain ⟨x265, ex265, hf⟩ := hf
        refine v_call (pc := 2626) (d_V (pc := 2626) C (As := []) (rest := []) rb264 kb264 nt_1 q2487 yi_X2_thrown_FigureSurveyModel yk_X2_thrown rfl (by decide) (by decide) (Nat.le_trans aw_0 (by decide)) rfl (mX2_thrown C.st ex265) dL_law_2626) ?_
        refine v_iload (pc := 2629) (j := 1) C dL_law_2629 rfl ?_
        refine v_icmp_eq (pc := 2631) (tgt := 2636) C dL_law_2631 rfl (fun hc => ?_) (fun hc => ?_)
        · rw [if_pos hc] at hf
          refine v_iload (pc := 2636) (j := 1) C dL_law_2636 rfl ?_
          refine v_if_ne (pc := 2638) (tgt := 2653) C dL_law_2638 rfl (fun hc => ?_) (fun hc => ?_)
          · rw [if_neg hc] at hf
            refine v_goto (pc := 2653) (tgt := 3952) C dL_law_2653 rfl ?_
            exact V.sub [2, 3, 4, 5, 6] rfl (vL_p3952 L ih hf)
          · rw [if_pos (Decidable.of_not_not hc)] at hf
            refine v_aload_n (pc := 2641) (j := 5) C dL_law_2641 rfl rfl ?_
            refine v_iconst (pc := 2642) (v := (0 : Int32)) C dL_law_2642 rfl ?_
            obtain ⟨x267, ex267, hf⟩ := hf
            refine v_laload (pc := 2643) C ex267 dL_law_2643 ?_
            refine v_iload (pc := 2644) (j := 0) C dL_law_2644 rfl ?_
            refine v_i2l (pc := 2646) C dL_law_2646 ?_
            refine v_lcmp (pc := 2647) C dL_law_2647 ?_
            refine v_if_eq (pc := 2648) (tgt := 2653) C dL_law_2648 rfl (fun hc => ?_) (fun hc => ?_)
            · rw [if_pos hc] at hf
              refine v_goto (pc := 2653) (tgt := 3952) C dL_law_2653 rfl ?_
              exact V.sub [2, 3, 4, 5, 6] rfl (vL_p3952 L ih hf)
            · rw [if_neg hc] at hf
              refine v_iconst (pc := 2651) (v := (0 : Int32)) C dL_law_2651 rfl ?_
              exact hf.elim
        · rw [if_neg hc] at hf
          refine v_iconst (pc := 2634) (v := (0 : Int32)) C dL_law_2634 rfl ?_
          exact hf.elim
      rw [if_neg j34] at hf
      by_cases j35 : (x2 &&& (63 : Int32)) = (35 : Int32)
      · rw [if_pos j35] at hf
        rw [j35]
        refine v_tableIn (pc := 39) (off := 2617) (tgt := 2656) C dL_law_39 (by decide) (by decide) rfl rfl ?_
        refine v_aload_n (pc := 2656) (j := 1) C dL_law_2656 rfl rfl ?_
        refine v_aload_n (pc := 2657) (j := 0) C dL_law_2657 rfl rfl ?_
        refine v_iload (pc := 2658) (j := 4) C dL_law_2658 rfl ?_
        refine v_iconst (pc := 2660) (v := (1 : Int32)) C dL_law_2660 rfl ?_
        refine v_iadd (pc := 2661) C dL_law_2661 ?_
        obtain ⟨x244, ex244, hf⟩ := hf
        refine v_iaload (pc := 2662) C ex244 dL_law_2662 ?_
        refine v_aload_n (pc := 2663) (j := 3) C dL_law_2663 rfl rfl ?_
        obtain ⟨x245, h246, ex245, ox245, hf⟩ := hf
        refine v_wcall (pc := 2664) (As := [va_rf a1, .int x244, va_rf a3]) (rest := []) C L.2.2.2.2.2.1 q2204 q2205 q2206 q73 ⟨by decide +kernel, by decide +kernel⟩ (n9 := 3) (by decide +kernel) rfl (by decide) (by decide) (Nat.le_trans aw_0 (by decide)) rfl (mX0_styleOf C.st ex245) dL_law_2664 ox245.1 (by have := L.2.1; have := ox245.2.1; omega) fun D1 h247 hs => ?_
        have L := L.step (by have := L.2.1; have := ox245.2.1; omega) hs (by have := L.2.1; have := ox245.2.2; have := L.2.2.2.2.2.2; omega)
        have hf := hf D1 h247 hs
        have C := L.1
        refine v_istore (pc := 2667) (lv' := [(5, false, .int x245), (0, false, va_rf a0), (1, false, va_rf a1), (2, false, va_rf a2), (3, false, va_rf a3), (4, false, .int a4)]) C dL_law_2667 (by decide) rfl ?_
        refine v_aload_n (pc := 2669) (j := 3) C dL_law_2669 rfl rfl ?_
        refine v_aload_n (pc := 2670) (j := 1) C dL_law_2670 rfl rfl ?_
        refine v_iload (pc := 2671) (j := 5) C dL_law_2671 rfl ?_
        refine v_iconst (pc := 2673) (v := (1 : Int32)) C dL_law_2673 rfl ?_
        refine v_iadd (pc := 2674) C dL_law_2674 ?_
        obtain ⟨x248, ex248, hf⟩ := hf
        refine v_iaload (pc := 2675) C ex248 dL_law_2675 ?_
        obtain ⟨b249, eb249, hf⟩ := hf
        obtain ⟨rb249, _, kb249⟩ := aIs_eq eb249
        obtain ⟨x250, h251, ex250, hf⟩ := hf
        refine v_call (pc := 2676) (d_V (pc := 2676) C (As := [.int x248]) (rest := []) rb249 kb249 nt_1 q2815 yi_X2_styleOf_FigureSurveyModel yk_X2_styleOf rfl (by decide) (by decide) (Nat.le_trans aw_0 (by decide)) rfl (mX2_styleOf C.st ex250) dL_law_2676) ?_
        refine v_istore (pc := 2679) (lv' := [(6, false, .int x250), (5, false, .int x245), (0, false, va_rf a0), (1, false, va_rf a1), (2, false, va_rf a2), (3, false, va_rf a3), (4, false, .int a4)]) C dL_law_2679 (by decide) rfl ?_
        refine v_aload_n (pc := 2681) (j := 4) C dL_law_2681 rfl rfl ?_
        obtain ⟨b252, eb252, hf⟩ := hf
        obtain ⟨rb252, _, kb252⟩ := aIs_eq eb252
        obtain ⟨x253, ex253, hf⟩ := hf
        refine v_call (pc := 2682) (d_V (pc := 2682) C (As := []) (rest := []) rb252 kb252 nt_1 q2487 yi_X2_thrown_FigureSurveyModel yk_X2_thrown rfl (by decide) (by decide) (Nat.le_trans aw_0 (by decide)) rfl (mX2_thrown C.st ex253) dL_law_2682) ?_
        refine v_iload (pc := 2685) (j := 1) C dL_law_2685 rfl ?_
        refine v_icmp_eq (pc := 2687) (tgt := 2692) C dL_law_2687 rfl (fun hc => ?_) (fun hc => ?_)
        · rw [if_pos hc] at hf
          refine v_iload (pc := 2692) (j := 1) C dL_law_2692 rfl ?_
          refine v_if_ne (pc := 2694) (tgt := 2709) C dL_law_2694 rfl (fun hc => ?_) (fun hc => ?_)
          · rw [if_neg hc] at hf
            refine v_goto (pc := 2709) (tgt := 3952) C dL_law_2709 rfl ?_
            exact V.sub [2, 3, 4, 5, 6] rfl (vL_p3952 L ih hf)
          · rw [if_pos (Decidable.of_not_not hc)] at hf
            refine v_aload_n (pc := 2697) (j := 5) C dL_law_2697 rfl rfl ?_
            refine v_iconst (pc := 2698) (v := (0 : Int32)) C dL_law_2698 rfl ?_
            obtain ⟨x255, ex255, hf⟩ := hf
            refine v_laload (pc := 2699) C ex255 dL_law_2699 ?_
            refine v_iload (pc := 2700) (j := 0) C dL_law_2700 rfl ?_
            refine v_i2l (pc := 2702) C dL_law_2702 ?_
            refine v_lcmp (pc := 2703) C dL_law_2703 ?_
            refine v_if_eq (pc := 2704) (tgt := 2709) C dL_law_2704 rfl (fun hc => ?_) (fun hc => ?_)
            · rw [if_pos hc] at hf
              refine v_goto (pc := 2709) (tgt := 3952) C dL_law_2709 rfl ?_
              exact V.sub [2, 3, 4, 5, 6] rfl (vL_p3952 L ih hf)
            · rw [if_neg hc] at hf
              refine v_iconst (pc := 2707) (v := (0 : Int32)) C dL_law_2707 rfl ?_
              exact hf.elim
        · rw [if_neg hc] at hf
          refine v_iconst (pc := 2690) (v := (0 : Int32)) C dL_law_2690 rfl ?_
          exact hf.elim
      rw [if_neg j35] at hf
      by_cases j36 : (x2 &&& (63 : Int32)) = (36 : Int32)
      · rw [if_pos j36] at hf
        rw [j36]
        refine v_tableIn (pc := 39) (off := 2673) (tgt := 2712) C dL_law_39 (by decide) (by decide) rfl rfl ?_
        refine v_aload_n (pc := 2712) (j := 1) C dL_law_2712 rfl rfl ?_
        refine v_aload_n (pc := 2713) (j := 0) C dL_law_2713 rfl rfl ?_
        refine v_iload (pc := 2714) (j := 4) C dL_law_2714 rfl ?_
        refine v_iconst (pc := 2716) (v := (1 : Int32)) C dL_law_2716 rfl ?_
        refine v_iadd (pc := 2717) C dL_law_2717 ?_
        obtain ⟨x230, ex230, hf⟩ := hf
        refine v_iaload (pc := 2718) C ex230 dL_law_2718 ?_
        refine v_aload_n (pc := 2719) (j := 0) C dL_law_2719 rfl rfl ?_
        refine v_iload (pc := 2720) (j := 4) C dL_law_2720 rfl ?_
        refine v_iconst (pc := 2722) (v := (2 : Int32)) C dL_law_2722 rfl ?_
        refine v_iadd (pc := 2723) C dL_law_2723 ?_
        obtain ⟨x231, ex231, hf⟩ := hf
        refine v_iaload (pc := 2724) C ex231 dL_law_2724 ?_
        refine v_aload_n (pc := 2725) (j := 3) C dL_law_2725 rfl rfl ?_
        obtain ⟨x232, h233, ex232, ox232, hf⟩ := hf
        refine v_wcall (pc := 2726) (As := [va_rf a1, .int x230, .int x231, va_rf a3]) (rest := []) C L.2.2.2.2.2.1 q2211 q2212 q2213 q73 ⟨by decide +kernel, by decide +kernel⟩ (n9 := 4) (by decide +kernel) rfl (by decide) (by decide) (Nat.le_trans aw_0 (by decide)) rfl (mX0_addEntry C.st ex232) dL_law_2726 ox232.1 (by have := L.2.1; have := ox232.2.1; omega) fun D1 h234 hs => ?_
        have L := L.step (by have := L.2.1; have := ox232.2.1; omega) hs (by have := L.2.1; have := ox232.2.2; have := L.2.2.2.2.2.2; omega)
        have hf := hf D1 h234 hs
        have C := L.1
        refine v_istore (pc := 2729) (lv' := [(5, false, .int x232), (0, false, va_rf a0), (1, false, va_rf a1), (2, false, va_rf a2), (3, false, va_rf a3), (4, false, .int a4)]) C dL_law_2729 (by decide) rfl ?_
        refine v_aload_n (pc := 2731) (j := 3) C dL_law_2731 rfl rfl ?_
        refine v_aload_n (pc := 2732) (j := 1) C dL_law_2732 rfl rfl ?_
        refine v_iload (pc := 2733) (j := 5) C dL_law_2733 rfl ?_
        refine v_iconst (pc := 2735) (v := (1 : Int32)) C dL_law_2735 rfl ?_
        refine v_iadd (pc := 2736) C dL_law_2736 ?_
        obtain ⟨x235, ex235, hf⟩ := hf
        refine v_iaload (pc := 2737) C ex235 dL_law_2737 ?_
        refine v_aload_n (pc := 2738) (j := 1) C dL_law_2738 rfl rfl ?_
        refine v_iload (pc := 2739) (j := 5) C dL_law_2739 rfl ?_
        refine v_iconst (pc := 2741) (v := (2 : Int32)) C dL_law_2741 rfl ?_
        refine v_iadd (pc := 2742) C dL_law_2742 ?_
        obtain ⟨x236, ex236, hf⟩ := hf
        refine v_iaload (pc := 2743) C ex236 dL_law_2743 ?_
        obtain ⟨b237, eb237, hf⟩ := hf
        obtain ⟨rb237, _, kb237⟩ := aIs_eq eb237
        obtain ⟨x238, h239, ex238, hf⟩ := hf
        refine v_call (pc := 2744) (d_V (pc := 2744) C (As := [.int x235, .int x236]) (rest := []) rb237 kb237 nt_1 q2819 yi_X2_addEntry_FigureSurveyModel yk_X2_addEntry rfl (by decide) (by decide) (Nat.le_trans aw_0 (by decide)) rfl (mX2_addEntry C.st ex238) dL_law_2744) ?_
        refine v_istore (pc := 2747) (lv' := [(6, false, .int x238), (5, false, .int x232), (0, false, va_rf a0), (1, false, va_rf a1), (2, false, va_rf a2), (3, false, va_rf a3), (4, false, .int a4)]) C dL_law_2747 (by decide) rfl ?_
        refine v_aload_n (pc := 2749) (j := 4) C dL_law_2749 rfl rfl ?_
        obtain ⟨b240, eb240, hf⟩ := hf
        obtain ⟨rb240, _, kb240⟩ := aIs_eq eb240
        obtain ⟨x241, ex241, hf⟩ := hf
        refine v_call (pc := 2750) (d_V (pc := 2750) C (As := []) (rest := []) rb240 kb240 nt_1 q2487 yi_X2_thrown_FigureSurveyModel yk_X2_thrown rfl (by decide) (by decide) (Nat.le_trans aw_0 (by decide)) rfl (mX2_thrown C.st ex241) dL_law_2750) ?_
        refine v_iload (pc := 2753) (j := 1) C dL_law_2753 rfl ?_
        refine v_icmp_eq (pc := 2755) (tgt := 2760) C dL_law_2755 rfl (fun hc => ?_) (fun hc => ?_)
        · rw [if_pos hc] at hf
          refine v_iload (pc := 2760) (j := 1) C dL_law_2760 rfl ?_
          refine v_if_ne (pc := 2762) (tgt := 2777) C dL_law_2762 rfl (fun hc => ?_) (fun hc => ?_)
          · rw [if_neg hc] at hf
            refine v_goto (pc := 2777) (tgt := 3952) C dL_law_2777 rfl ?_
            exact V.sub [2, 3, 4, 5, 6] rfl (vL_p3952 L ih hf)
          · rw [if_pos (Decidable.of_not_not hc)] at hf
            refine v_aload_n (pc := 2765) (j := 5) C dL_law_2765 rfl rfl ?_
            refine v_iconst (pc := 2766) (v := (0 : Int32)) C dL_law_2766 rfl ?_
            obtain ⟨x243, ex243, hf⟩ := hf
            refine v_laload (pc := 2767) C ex243 dL_law_2767 ?_
            refine v_iload (pc := 2768) (j := 0) C dL_law_2768 rfl ?_
            refine v_i2l (pc := 2770) C dL_law_2770 ?_
            refine v_lcmp (pc := 2771) C dL_law_2771 ?_
            refine v_if_eq (pc := 2772) (tgt := 2777) C dL_law_2772 rfl (fun hc => ?_) (fun hc => ?_)
            · rw [if_pos hc] at hf
              refine v_goto (pc := 2777) (tgt := 3952) C dL_law_2777 rfl ?_
              exact V.sub [2, 3, 4, 5, 6] rfl (vL_p3952 L ih hf)
            · rw [if_neg hc] at hf
              refine v_iconst (pc := 2775) (v := (0 : Int32)) C dL_law_2775 rfl ?_
              exact hf.elim
        · rw [if_neg hc] at hf
          refine v_iconst (pc := 2758) (v := (0 : Int32)) C dL_law_2758 rfl ?_
          exact hf.elim
      rw [if_neg j36] at hf
      by_cases j37 : (x2 &&& (63 : Int32)) = (37 : Int32)
      · rw [if_pos j37] at hf
        rw [j37]
        refine v_tableIn (pc := 39) (off := 2741) (tgt := 2780) C dL_law_39 (by decide) (by decide) rfl rfl ?_
        refine v_aload_n (pc := 2780) (j := 1) C dL_law_2780 rfl rfl ?_
        refine v_aload_n (pc := 2781) (j := 0) C dL_law_2781 rfl rfl ?_
        refine v_iload (pc := 2782) (j := 4) C dL_law_2782 rfl ?_
        refine v_iconst (pc := 2784) (v := (1 : Int32)) C dL_law_2784 rfl ?_
        refine v_iadd (pc := 2785) C dL_law_2785 ?_
        obtain ⟨x218, ex218, hf⟩ := hf
        refine v_iaload (pc := 2786) C ex218 dL_law_2786 ?_
        refine v_aload_n (pc := 2787) (j := 3) C dL_law_2787 rfl rfl ?_
        obtain ⟨x219, h220, ex219, ox219, hf⟩ := hf
        refine v_wcall (pc := 2788) (As := [va_rf a1, .int x218, va_rf a3]) (rest := []) C L.2.2.2.2.2.1 q2236 q2237 q2238 q73 ⟨by decide +kernel, by decide +kernel⟩ (n9 := 3) (by decide +kernel) rfl (by decide) (by decide) (Nat.le_trans aw_0 (by decide)) rfl (mX0_figureFor C.st ex219) dL_law_2788 ox219.1 (by have := L.2.1; have := ox219.2.1; omega) fun D1 h221 hs => ?_
        have L := L.step (by have := L.2.1; have := ox219.2.1; omega) hs (by have := L.2.1; have := ox219.2.2; have := L.2.2.2.2.2.2; omega)
        have hf := hf D1 h221 hs
        have C := L.1
        refine v_istore (pc := 2791) (lv' := [(5, false, .int x219), (0, false, va_rf a0), (1, false, va_rf a1), (2, false, va_rf a2), (3, false, va_rf a3), (4, false, .int a4)]) C dL_law_2791 (by decide) rfl ?_
        refine v_aload_n (pc := 2793) (j := 3) C dL_law_2793 rfl rfl ?_
        refine v_aload_n (pc := 2794) (j := 1) C dL_law_2794 rfl rfl ?_
        refine v_iload (pc := 2795) (j := 5) C dL_law_2795 rfl ?_
        refine v_iconst (pc := 2797) (v := (1 : Int32)) C dL_law_2797 rfl ?_
        refine v_iadd (pc := 2798) C dL_law_2798 ?_
        obtain ⟨x222, ex222, hf⟩ := hf
        refine v_iaload (pc := 2799) C ex222 dL_law_2799 ?_
        obtain ⟨b223, eb223, hf⟩ := hf
        obtain ⟨rb223, _, kb223⟩ := aIs_eq eb223
        obtain ⟨x224, h225, ex224, hf⟩ := hf
        refine v_call (pc := 2800) (d_V (pc := 2800) C (As := [.int x222]) (rest := []) rb223 kb223 nt_1 q2823 yi_X2_figureFor_FigureSurveyModel yk_X2_figureFor rfl (by decide) (by decide) (Nat.le_trans aw_0 (by decide)) rfl (mX2_figureFor C.st ex224) dL_law_2800) ?_
        refine v_istore (pc := 2803) (lv' := [(6, false, .int x224), (5, false, .int x219), (0, false, va_rf a0), (1, false, va_rf a1), (2, false, va_rf a2), (3, false, va_rf a3), (4, false, .int a4)]) C dL_law_2803 (by decide) rfl ?_
        refine v_aload_n (pc := 2805) (j := 4) C dL_law_2805 rfl rfl ?_
        obtain ⟨b226, eb226, hf⟩ := hf
        obtain ⟨rb226, _, kb226⟩ := aIs_eq eb226
        obtain ⟨x227, ex227, hf⟩ := hf
        refine v_call (pc := 2806) (d_V (pc := 2806) C (As := []) (rest := []) rb226 kb226 nt_1 q2487 yi_X2_thrown_FigureSurveyModel yk_X2_thrown rfl (by decide) (by decide) (Nat.le_trans aw_0 (by decide)) rfl (mX2_thrown C.st ex227) dL_law_2806) ?_
        refine v_iload (pc := 2809) (j := 1) C dL_law_2809 rfl ?_
        refine v_icmp_eq (pc := 2811) (tgt := 2816) C dL_law_2811 rfl (fun hc => ?_) (fun hc => ?_)
        · rw [if_pos hc] at hf
          refine v_iload (pc := 2816) (j := 1) C dL_law_2816 rfl ?_
          refine v_if_ne (pc := 2818) (tgt := 2833) C dL_law_2818 rfl (fun hc => ?_) (fun hc => ?_)
          · rw [if_neg hc] at hf
            refine v_goto (pc := 2833) (tgt := 3952) C dL_law_2833 rfl ?_
            exact V.sub [2, 3, 4, 5, 6] rfl (vL_p3952 L ih hf)
          · rw [if_pos (Decidable.of_not_not hc)] at hf
            refine v_aload_n (pc := 2821) (j := 5) C dL_law_2821 rfl rfl ?_
            refine v_iconst (pc := 2822) (v := (0 : Int32)) C dL_law_2822 rfl ?_
            obtain ⟨x229, ex229, hf⟩ := hf
            refine v_laload (pc := 2823) C ex229 dL_law_2823 ?_
            refine v_iload (pc := 2824) (j := 0) C dL_law_2824 rfl ?_
            refine v_i2l (pc := 2826) C dL_law_2826 ?_
            refine v_lcmp (pc := 2827) C dL_law_2827 ?_
            refine v_if_eq (pc := 2828) (tgt := 2833) C dL_law_2828 rfl (fun hc => ?_) (fun hc => ?_)
            · rw [if_pos hc] at hf
              refine v_goto (pc := 2833) (tgt := 3952) C dL_law_2833 rfl ?_
              exact V.sub [2, 3, 4, 5, 6] rfl (vL_p3952 L ih hf)
            · rw [if_neg hc] at hf
              refine v_iconst (pc := 2831) (v := (0 : Int32)) C dL_law_2831 rfl ?_
              exact hf.elim
        · rw [if_neg hc] at hf
          refine v_iconst (pc := 2814) (v := (0 : Int32)) C dL_law_2814 rfl ?_
          exact hf.elim
      rw [if_neg j37] at hf
      by_cases j38 : (x2 &&& (63 : Int32)) = (38 : Int32)
      · rw [if_pos j38] at hf
        rw [j38]
        refine v_tableIn (pc := 39) (off := 2797) (tgt := 2836) C dL_law_39 (by decide) (by decide) rfl rfl ?_
        refine v_aload_n (pc := 2836) (j := 1) C dL_law_2836 rfl rfl ?_
        refine v_aload_n (pc := 2837) (j := 0) C dL_law_2837 rfl rfl ?_
        refine v_iload (pc := 2838) (j := 4) C dL_law_2838 rfl ?_
        refine v_iconst (pc := 2840) (v := (1 : Int32)) C dL_law_2840 rfl ?_
        refine v_iadd (pc := 2841) C dL_law_2841 ?_
        obtain ⟨x200, ex200, hf⟩ := hf
        refine v_iaload (pc := 2842) C ex200 dL_law_2842 ?_
        refine v_aload_n (pc := 2843) (j := 0) C dL_law_2843 rfl rfl ?_
        refine v_iload (pc := 2844) (j := 4) C dL_law_2844 rfl ?_
        refine v_iconst (pc := 2846) (v := (2 : Int32)) C dL_law_2846 rfl ?_
        refine v_iadd (pc := 2847) C dL_law_2847 ?_
        obtain ⟨x201, ex201, hf⟩ := hf
        refine v_iaload (pc := 2848) C ex201 dL_law_2848 ?_
        refine v_aload_n (pc := 2849) (j := 0) C dL_law_2849 rfl rfl ?_
        refine v_iload (pc := 2850) (j := 4) C dL_law_2850 rfl ?_
        refine v_iconst (pc := 2852) (v := (3 : Int32)) C dL_law_2852 rfl ?_
        refine v_iadd (pc := 2853) C dL_law_2853 ?_
        obtain ⟨x202, ex202, hf⟩ := hf
        refine v_iaload (pc := 2854) C ex202 dL_law_2854 ?_
        refine v_aload_n (pc := 2855) (j := 0) C dL_law_2855 rfl rfl ?_
        refine v_iload (pc := 2856) (j := 4) C dL_law_2856 rfl ?_
        refine v_iconst (pc := 2858) (v := (4 : Int32)) C dL_law_2858 rfl ?_
        refine v_iadd (pc := 2859) C dL_law_2859 ?_
        obtain ⟨x203, ex203, hf⟩ := hf
        refine v_iaload (pc := 2860) C ex203 dL_law_2860 ?_
        refine v_aload_n (pc := 2861) (j := 3) C dL_law_2861 rfl rfl ?_
        obtain ⟨x204, h205, ex204, ox204, hf⟩ := hf
        refine v_wcall (pc := 2862) (As := [va_rf a1, .int x200, .int x201, .int x202, .int x203, va_rf a3]) (rest := []) C L.2.2.2.2.2.1 q2247 q2248 q2249 q73 ⟨by decide +kernel, by decide +kernel⟩ (n9 := 6) (by decide +kernel) rfl (by decide) (by decide) (Nat.le_trans aw_0 (by decide)) rfl (mX0_tellName C.st ex204) dL_law_2862 ox204.1 (by have := L.2.1; have := ox204.2.1; omega) fun D1 h206 hs => ?_
        have L := L.step (by have := L.2.1; have := ox204.2.1; omega) hs (by have := L.2.1; have := ox204.2.2; have := L.2.2.2.2.2.2; omega)
        have hf := hf D1 h206 hs
        have C := L.1
        refine v_istore (pc := 2865) (lv' := [(5, false, .int x204), (0, false, va_rf a0), (1, false, va_rf a1), (2, false, va_rf a2), (3, false, va_rf a3), (4, false, .int a4)]) C dL_law_2865 (by decide) rfl ?_
        refine v_aload_n (pc := 2867) (j := 3) C dL_law_2867 rfl rfl ?_
        refine v_aload_n (pc := 2868) (j := 1) C dL_law_2868 rfl rfl ?_
        refine v_iload (pc := 2869) (j := 5) C dL_law_2869 rfl ?_
        refine v_iconst (pc := 2871) (v := (1 : Int32)) C dL_law_2871 rfl ?_
        refine v_iadd (pc := 2872) C dL_law_2872 ?_
        obtain ⟨x207, ex207, hf⟩ := hf
        refine v_iaload (pc := 2873) C ex207 dL_law_2873 ?_
        refine v_aload_n (pc := 2874) (j := 1) C dL_law_2874 rfl rfl ?_
        refine v_iload (pc := 2875) (j := 5) C dL_law_2875 rfl ?_
        refine v_iconst (pc := 2877) (v := (2 : Int32)) C dL_law_2877 rfl ?_
        refine v_iadd (pc := 2878) C dL_law_2878 ?_
        obtain ⟨x208, ex208, hf⟩ := hf
        refine v_iaload (pc := 2879) C ex208 dL_law_2879 ?_
        refine v_aload_n (pc := 2880) (j := 1) C dL_law_2880 rfl rfl ?_
        refine v_iload (pc := 2881) (j := 5) C dL_law_2881 rfl ?_
        refine v_iconst (pc := 2883) (v := (3 : Int32)) C dL_law_2883 rfl ?_
        refine v_iadd (pc := 2884) C dL_law_2884 ?_
        obtain ⟨x209, ex209, hf⟩ := hf
        refine v_iaload (pc := 2885) C ex209 dL_law_2885 ?_
        refine v_aload_n (pc := 2886) (j := 1) C dL_law_2886 rfl rfl ?_
        refine v_iload (pc := 2887) (j := 5) C dL_law_2887 rfl ?_
        refine v_iconst (pc := 2889) (v := (4 : Int32)) C dL_law_2889 rfl ?_
        refine v_iadd (pc := 2890) C dL_law_2890 ?_
        obtain ⟨x210, ex210, hf⟩ := hf
        refine v_iaload (pc := 2891) C ex210 dL_law_2891 ?_
        obtain ⟨b211, eb211, hf⟩ := hf
        obtain ⟨rb211, _, kb211⟩ := aIs_eq eb211
        obtain ⟨x212, h213, ex212, hf⟩ := hf
        refine v_call (pc := 2892) (d_V (pc := 2892) C (As := [.int x207, .int x208, .int x209, .int x210]) (rest := []) rb211 kb211 nt_1 q2830 yi_X2_tellName_FigureSurveyModel yk_X2_tellName rfl (by decide) (by decide) (Nat.le_trans aw_0 (by decide)) rfl (mX2_tellName C.st ex212) dL_law_2892) ?_
        refine v_istore (pc := 2895) (lv' := [(6, false, .int x212), (5, false, .int x204), (0, false, va_rf a0), (1, false, va_rf a1), (2, false, va_rf a2), (3, false, va_rf a3), (4, false, .int a4)]) C dL_law_2895 (by decide) rfl ?_
        refine v_aload_n (pc := 2897) (j := 4) C dL_law_2897 rfl rfl ?_
        obtain ⟨b214, eb214, hf⟩ := hf
        obtain ⟨rb214, _, kb214⟩ := aIs_eq eb214
        obtain ⟨x215, ex215, hf⟩ := hf
        refine v_call (pc := 2898) (d_V (pc := 2898) C (As := []) (rest := []) rb214 kb214 nt_1 q2487 yi_X2_thrown_FigureSurveyModel yk_X2_thrown rfl (by decide) (by decide) (Nat.le_trans aw_0 (by decide)) rfl (mX2_thrown C.st ex215) dL_law_2898) ?_
        refine v_iload (pc := 2901) (j := 1) C dL_law_2901 rfl ?_
        refine v_icmp_eq (pc := 2903) (tgt := 2908) C dL_law_2903 rfl (fun hc => ?_) (fun hc => ?_)
        · rw [if_pos hc] at hf
          refine v_iload (pc := 2908) (j := 1) C dL_law_2908 rfl ?_
          refine v_if_ne (pc := 2910) (tgt := 2925) C dL_law_2910 rfl (fun hc => ?_) (fun hc => ?_)
          · rw [if_neg hc] at hf
            refine v_goto (pc := 2925) (tgt := 3952) C dL_law_2925 rfl ?_
            exact V.sub [2, 3, 4, 5, 6] rfl (vL_p3952 L ih hf)
          · rw [if_pos (Decidable.of_not_not hc)] at hf
            refine v_aload_n (pc := 2913) (j := 5) C dL_law_2913 rfl rfl ?_
            refine v_iconst (pc := 2914) (v := (0 : Int32)) C dL_law_2914 rfl ?_
            obtain ⟨x217, ex217, hf⟩ := hf
            refine v_laload (pc := 2915) C ex217 dL_law_2915 ?_
            refine v_iload (pc := 2916) (j := 0) C dL_law_2916 rfl ?_
            refine v_i2l (pc := 2918) C dL_law_2918 ?_
            refine v_lcmp (pc := 2919) C dL_law_2919 ?_
            refine v_if_eq (pc := 2920) (tgt := 2925) C dL_law_2920 rfl (fun hc => ?_) (fun hc => ?_)
            · rw [if_pos hc] at hf
              refine v_goto (pc := 2925) (tgt := 3952) C dL_law_2925 rfl ?_
              exact V.sub [2, 3, 4, 5, 6] rfl (vL_p3952 L ih hf)
            · rw [if_neg hc] at hf
              refine v_iconst (pc := 2923) (v := (0 : Int32)) C dL_law_2923 rfl ?_
              exact hf.elim
        · rw [if_neg hc] at hf
          refine v_iconst (pc := 2906) (v := (0 : Int32)) C dL_law_2906 rfl ?_
          exact hf.elim
      rw [if_neg j38] at hf
      by_cases j39 : (x2 &&& (63 : Int32)) = (39 : Int32)
      · rw [if_pos j39] at hf
        rw [j39]
        refine v_tableIn (pc := 39) (off := 2889) (tgt := 2928) C dL_law_39 (by decide) (by decide) rfl rfl ?_
        refine v_aload_n (pc := 2928) (j := 1) C dL_law_2928 rfl rfl ?_
        refine v_aload_n (pc := 2929) (j := 0) C dL_law_2929 rfl rfl ?_
        refine v_iload (pc := 2930) (j := 4) C dL_law_2930 rfl ?_
        refine v_iconst (pc := 2932) (v := (1 : Int32)) C dL_law_2932 rfl ?_
        refine v_iadd (pc := 2933) C dL_law_2933 ?_
        obtain ⟨x184, ex184, hf⟩ := hf
        refine v_iaload (pc := 2934) C ex184 dL_law_2934 ?_
        refine v_aload_n (pc := 2935) (j := 0) C dL_law_2935 rfl rfl ?_
        refine v_iload (pc := 2936) (j := 4) C dL_law_2936 rfl ?_
        refine v_iconst (pc := 2938) (v := (2 : Int32)) C dL_law_2938 rfl ?_
        refine v_iadd (pc := 2939) C dL_law_2939 ?_
        obtain ⟨x185, ex185, hf⟩ := hf
        refine v_iaload (pc := 2940) C ex185 dL_law_2940 ?_
        refine v_aload_n (pc := 2941) (j := 0) C dL_law_2941 rfl rfl ?_
        refine v_iload (pc := 2942) (j := 4) C dL_law_2942 rfl ?_
        refine v_iconst (pc := 2944) (v := (3 : Int32)) C dL_law_2944 rfl ?_
        refine v_iadd (pc := 2945) C dL_law_2945 ?_
        obtain ⟨x186, ex186, hf⟩ := hf
        refine v_iaload (pc := 2946) C ex186 dL_law_2946 ?_
        refine v_aload_n (pc := 2947) (j := 3) C dL_law_2947 rfl rfl ?_
        obtain ⟨x187, h188, ex187, ox187, hf⟩ := hf
        refine v_wcall (pc := 2948) (As := [va_rf a1, .int x184, .int x185, .int x186, va_rf a3]) (rest := []) C L.2.2.2.2.2.1 q2273 q2274 q2275 q73 ⟨by decide +kernel, by decide +kernel⟩ (n9 := 5) (by decide +kernel) rfl (by decide) (by decide) (Nat.le_trans aw_0 (by decide)) rfl (mX0_nameFor C.st ex187) dL_law_2948 ox187.1 (by have := L.2.1; have := ox187.2.1; omega) fun D1 h189 hs => ?_
        have L := L.step (by have := L.2.1; have := ox187.2.1; omega) hs (by have := L.2.1; have := ox187.2.2; have := L.2.2.2.2.2.2; omega)
        have hf := hf D1 h189 hs
        have C := L.1
        refine v_istore (pc := 2951) (lv' := [(5, false, .int x187), (0, false, va_rf a0), (1, false, va_rf a1), (2, false, va_rf a2), (3, false, va_rf a3), (4, false, .int a4)]) C dL_law_2951 (by decide) rfl ?_
        refine v_aload_n (pc := 2953) (j := 3) C dL_law_2953 rfl rfl ?_
        refine v_aload_n (pc := 2954) (j := 1) C dL_law_2954 rfl rfl ?_
        refine v_iload (pc := 2955) (j := 5) C dL_law_2955 rfl ?_
        refine v_iconst (pc := 2957) (v := (1 : Int32)) C dL_law_2957 rfl ?_
        refine v_iadd (pc := 2958) C dL_law_2958 ?_
        obtain ⟨x190, ex190, hf⟩ := hf
        refine v_iaload (pc := 2959) C ex190 dL_law_2959 ?_
        refine v_aload_n (pc := 2960) (j := 1) C dL_law_2960 rfl rfl ?_
        refine v_iload (pc := 2961) (j := 5) C dL_law_2961 rfl ?_
        refine v_iconst (pc := 2963) (v := (2 : Int32)) C dL_law_2963 rfl ?_
        refine v_iadd (pc := 2964) C dL_law_2964 ?_
        obtain ⟨x191, ex191, hf⟩ := hf
        refine v_iaload (pc := 2965) C ex191 dL_law_2965 ?_
        refine v_aload_n (pc := 2966) (j := 1) C dL_law_2966 rfl rfl ?_
        refine v_iload (pc := 2967) (j := 5) C dL_law_2967 rfl ?_
        refine v_iconst (pc := 2969) (v := (3 : Int32)) C dL_law_2969 rfl ?_
        refine v_iadd (pc := 2970) C dL_law_2970 ?_
        obtain ⟨x192, ex192, hf⟩ := hf
        refine v_iaload (pc := 2971) C ex192 dL_law_2971 ?_
        obtain ⟨b193, eb193, hf⟩ := hf
        obtain ⟨rb193, _, kb193⟩ := aIs_eq eb193
        obtain ⟨x194, h195, ex194, hf⟩ := hf
        refine v_call (pc := 2972) (d_V (pc := 2972) C (As := [.int x190, .int x191, .int x192]) (rest := []) rb193 kb193 nt_1 q2834 yi_X2_nameFor_FigureSurveyModel yk_X2_nameFor rfl (by decide) (by decide) (Nat.le_trans aw_0 (by decide)) rfl (mX2_nameFor C.st ex194) dL_law_2972) ?_
        refine v_istore (pc := 2975) (lv' := [(6, false, .int x194), (5, false, .int x187), (0, false, va_rf a0), (1, false, va_rf a1), (2, false, va_rf a2), (3, false, va_rf a3), (4, false, .int a4)]) C dL_law_2975 (by decide) rfl ?_
        refine v_aload_n (pc := 2977) (j := 4) C dL_law_2977 rfl rfl ?_
        obtain ⟨b196, eb196, hf⟩ := hf
        obtain ⟨rb196, _, kb196⟩ := aIs_eq eb196
        obtain ⟨x197, ex197, hf⟩ := hf
        refine v_call (pc := 2978) (d_V (pc := 2978) C (As := []) (rest := []) rb196 kb196 nt_1 q2487 yi_X2_thrown_FigureSurveyModel yk_X2_thrown rfl (by decide) (by decide) (Nat.le_trans aw_0 (by decide)) rfl (mX2_thrown C.st ex197) dL_law_2978) ?_
        refine v_iload (pc := 2981) (j := 1) C dL_law_2981 rfl ?_
        refine v_icmp_eq (pc := 2983) (tgt := 2988) C dL_law_2983 rfl (fun hc => ?_) (fun hc => ?_)
        · rw [if_pos hc] at hf
          refine v_iload (pc := 2988) (j := 1) C dL_law_2988 rfl ?_
          refine v_if_ne (pc := 2990) (tgt := 3005) C dL_law_2990 rfl (fun hc => ?_) (fun hc => ?_)
          · rw [if_neg hc] at hf
            refine v_goto (pc := 3005) (tgt := 3952) C dL_law_3005 rfl ?_
            exact V.sub [2, 3, 4, 5, 6] rfl (vL_p3952 L ih hf)
          · rw [if_pos (Decidable.of_not_not hc)] at hf
            refine v_aload_n (pc := 2993) (j := 5) C dL_law_2993 rfl rfl ?_
            refine v_iconst (pc := 2994) (v := (0 : Int32)) C dL_law_2994 rfl ?_
            obtain ⟨x199, ex199, hf⟩ := hf
            refine v_laload (pc := 2995) C ex199 dL_law_2995 ?_
            refine v_iload (pc := 2996) (j := 0) C dL_law_2996 rfl ?_
            refine v_i2l (pc := 2998) C dL_law_2998 ?_
            refine v_lcmp (pc := 2999) C dL_law_2999 ?_
            refine v_if_eq (pc := 3000) (tgt := 3005) C dL_law_3000 rfl (fun hc => ?_) (fun hc => ?_)
            · rw [if_pos hc] at hf
              refine v_goto (pc := 3005) (tgt := 3952) C dL_law_3005 rfl ?_
              exact V.sub [2, 3, 4, 5, 6] rfl (vL_p3952 L ih hf)
            · rw [if_neg hc] at hf
              refine v_iconst (pc := 3003) (v := (0 : Int32)) C dL_law_3003 rfl ?_
              exact hf.elim
        · rw [if_neg hc] at hf
          refine v_iconst (pc := 2986) (v := (0 : Int32)) C dL_law_2986 rfl ?_
          exact hf.elim
      rw [if_neg j39] at hf
      by_cases j40 : (x2 &&& (63 : Int32)) = (40 : Int32)
      · rw [if_pos j40] at hf
        rw [j40]
        refine v_tableIn (pc := 39) (off := 2969) (tgt := 3008) C dL_law_39 (by decide) (by decide) rfl rfl ?_
        refine v_aload_n (pc := 3008) (j := 1) C dL_law_3008 rfl rfl ?_
        refine v_aload_n (pc := 3009) (j := 0) C dL_law_3009 rfl rfl ?_
        refine v_iload (pc := 3010) (j := 4) C dL_law_3010 rfl ?_
        refine v_iconst (pc := 3012) (v := (1 : Int32)) C dL_law_3012 rfl ?_
        refine v_iadd (pc := 3013) C dL_law_3013 ?_
        obtain ⟨x181, ex181, hf⟩ := hf
        refine v_iaload (pc := 3014) C ex181 dL_law_3014 ?_
        refine v_aload_n (pc := 3015) (j := 0) C dL_law_3015 rfl rfl ?_
        refine v_iload (pc := 3016) (j := 4) C dL_law_3016 rfl ?_
        refine v_iconst (pc := 3018) (v := (2 : Int32)) C dL_law_3018 rfl ?_
        refine v_iadd (pc := 3019) C dL_law_3019 ?_
        obtain ⟨x182, ex182, hf⟩ := hf
        refine v_iaload (pc := 3020) C ex182 dL_law_3020 ?_
        refine v_aload_n (pc := 3021) (j := 0) C dL_law_3021 rfl rfl ?_
        refine v_iload (pc := 3022) (j := 4) C dL_law_3022 rfl ?_
        refine v_iconst (pc := 3024) (v := (3 : Int32)) C dL_law_3024 rfl ?_
        refine v_iadd (pc := 3025) C dL_law_3025 ?_
        obtain ⟨x183, ex183, hf⟩ := hf
        refine v_iaload (pc := 3026) C ex183 dL_law_3026 ?_
        refine v_if_eq (pc := 3027) (tgt := 3034) C dL_law_3027 rfl (fun hc => ?_) (fun hc => ?_)
        · rw [if_pos hc] at hf
          refine v_iconst (pc := 3034) (v := (0 : Int32)) C dL_law_3034 rfl ?_
          exact V.sub [0, 1, 2, 3, 4] rfl (vL_p3035 L ih hf)
        · rw [if_neg hc] at hf
          refine v_iconst (pc := 3030) (v := (1 : Int32)) C dL_law_3030 rfl ?_
          refine v_goto (pc := 3031) (tgt := 3035) C dL_law_3031 rfl ?_
          exact V.sub [0, 1, 2, 3, 4] rfl (vL_p3035 L ih hf)
      rw [if_neg j40] at hf
      by_cases j41 : (x2 &&& (63 : Int32)) = (41 : Int32)
      · rw [if_pos j41] at hf
        rw [j41]
        refine v_tableIn (pc := 39) (off := 3072) (tgt := 3111) C dL_law_39 (by decide) (by decide) rfl rfl ?_
        refine v_aload_n (pc := 3111) (j := 1) C dL_law_3111 rfl rfl ?_
        refine v_aload_n (pc := 3112) (j := 0) C dL_law_3112 rfl rfl ?_
        refine v_iload (pc := 3113) (j := 4) C dL_law_3113 rfl ?_
        refine v_iconst (pc := 3115) (v := (1 : Int32)) C dL_law_3115 rfl ?_
        refine v_iadd (pc := 3116) C dL_law_3116 ?_
        obtain ⟨x167, ex167, hf⟩ := hf
        refine v_iaload (pc := 3117) C ex167 dL_law_3117 ?_
        refine v_aload_n (pc := 3118) (j := 0) C dL_law_3118 rfl rfl ?_
        refine v_iload (pc := 3119) (j := 4) C dL_law_3119 rfl ?_
        refine v_iconst (pc := 3121) (v := (2 : Int32)) C dL_law_3121 rfl ?_
        refine v_iadd (pc := 3122) C dL_law_3122 ?_
        obtain ⟨x168, ex168, hf⟩ := hf
        refine v_iaload (pc := 3123) C ex168 dL_law_3123 ?_
        refine v_aload_n (pc := 3124) (j := 3) C dL_law_3124 rfl rfl ?_
        obtain ⟨x169, h170, ex169, ox169, hf⟩ := hf
        refine v_wcall (pc := 3125) (As := [va_rf a1, .int x167, .int x168, va_rf a3]) (rest := []) C L.2.2.2.2.2.1 q2299 q2300 q2301 q73 ⟨by decide +kernel, by decide +kernel⟩ (n9 := 4) (by decide +kernel) rfl (by decide) (by decide) (Nat.le_trans aw_0 (by decide)) rfl (mX0_repaint C.st ex169) dL_law_3125 ox169.1 (by have := L.2.1; have := ox169.2.1; omega) fun D1 h171 hs => ?_
        have L := L.step (by have := L.2.1; have := ox169.2.1; omega) hs (by have := L.2.1; have := ox169.2.2; have := L.2.2.2.2.2.2; omega)
        have hf := hf D1 h171 hs
        have C := L.1
        refine v_istore (pc := 3128) (lv' := [(5, false, .int x169), (0, false, va_rf a0), (1, false, va_rf a1), (2, false, va_rf a2), (3, false, va_rf a3), (4, false, .int a4)]) C dL_law_3128 (by decide) rfl ?_
        refine v_aload_n (pc := 3130) (j := 3) C dL_law_3130 rfl rfl ?_
        refine v_aload_n (pc := 3131) (j := 1) C dL_law_3131 rfl rfl ?_
        refine v_iload (pc := 3132) (j := 5) C dL_law_3132 rfl ?_
        refine v_iconst (pc := 3134) (v := (1 : Int32)) C dL_law_3134 rfl ?_
        refine v_iadd (pc := 3135) C dL_law_3135 ?_
        obtain ⟨x172, ex172, hf⟩ := hf
        refine v_iaload (pc := 3136) C ex172 dL_law_3136 ?_
        refine v_aload_n (pc := 3137) (j := 1) C dL_law_3137 rfl rfl ?_
        refine v_iload (pc := 3138) (j := 5) C dL_law_3138 rfl ?_
        refine v_iconst (pc := 3140) (v := (2 : Int32)) C dL_law_3140 rfl ?_
        refine v_iadd (pc := 3141) C dL_law_3141 ?_
        obtain ⟨x173, ex173, hf⟩ := hf
        refine v_iaload (pc := 3142) C ex173 dL_law_3142 ?_
        obtain ⟨b174, eb174, hf⟩ := hf
        obtain ⟨rb174, _, kb174⟩ := aIs_eq eb174
        obtain ⟨x175, h176, ex175, hf⟩ := hf
        refine v_call (pc := 3143) (d_V (pc := 3143) C (As := [.int x172, .int x173]) (rest := []) rb174 kb174 nt_1 q2842 yi_X2_repaint_FigureSurveyModel yk_X2_repaint rfl (by decide) (by decide) (Nat.le_trans aw_0 (by decide)) rfl (mX2_repaint C.st ex175) dL_law_3143) ?_
        refine v_istore (pc := 3146) (lv' := [(6, false, .int x175), (5, false, .int x169), (0, false, va_rf a0), (1, false, va_rf a1), (2, false, va_rf a2), (3, false, va_rf a3), (4, false, .int a4)]) C dL_law_3146 (by decide) rfl ?_
        refine v_aload_n (pc := 3148) (j := 4) C dL_law_3148 rfl rfl ?_
        obtain ⟨b177, eb177, hf⟩ := hf
        obtain ⟨rb177, _, kb177⟩ := aIs_eq eb177
        obtain ⟨x178, ex178, hf⟩ := hf
        refine v_call (pc := 3149) (d_V (pc := 3149) C (As := []) (rest := []) rb177 kb177 nt_1 q2487 yi_X2_thrown_FigureSurveyModel yk_X2_thrown rfl (by decide) (by decide) (Nat.le_trans aw_0 (by decide)) rfl (mX2_thrown C.st ex178) dL_law_3149) ?_
        refine v_iload (pc := 3152) (j := 1) C dL_law_3152 rfl ?_
        refine v_icmp_eq (pc := 3154) (tgt := 3159) C dL_law_3154 rfl (fun hc => ?_) (fun hc => ?_)
        · rw [if_pos hc] at hf
          refine v_iload (pc := 3159) (j := 1) C dL_law_3159 rfl ?_
          refine v_if_ne (pc := 3161) (tgt := 3176) C dL_law_3161 rfl (fun hc => ?_) (fun hc => ?_)
          · rw [if_neg hc] at hf
            refine v_goto (pc := 3176) (tgt := 3952) C dL_law_3176 rfl ?_
            exact V.sub [2, 3, 4, 5, 6] rfl (vL_p3952 L ih hf)
          · rw [if_pos (Decidable.of_not_not hc)] at hf
            refine v_aload_n (pc := 3164) (j := 5) C dL_law_3164 rfl rfl ?_
            refine v_iconst (pc := 3165) (v := (0 : Int32)) C dL_law_3165 rfl ?_
            obtain ⟨x180, ex180, hf⟩ := hf
            refine v_laload (pc := 3166) C ex180 dL_law_3166 ?_
            refine v_iload (pc := 3167) (j := 0) C dL_law_3167 rfl ?_
            refine v_i2l (pc := 3169) C dL_law_3169 ?_
            refine v_lcmp (pc := 3170) C dL_law_3170 ?_
            refine v_if_eq (pc := 3171) (tgt := 3176) C dL_law_3171 rfl (fun hc => ?_) (fun hc => ?_)
            · rw [if_pos hc] at hf
              refine v_goto (pc := 3176) (tgt := 3952) C dL_law_3176 rfl ?_
              exact V.sub [2, 3, 4, 5, 6] rfl (vL_p3952 L ih hf)
            · rw [if_neg hc] at hf
              refine v_iconst (pc := 3174) (v := (0 : Int32)) C dL_law_3174 rfl ?_
              exact hf.elim
        · rw [if_neg hc] at hf
          refine v_iconst (pc := 3157) (v := (0 : Int32)) C dL_law_3157 rfl ?_
          exact hf.elim
      rw [if_neg j41] at hf
      by_cases j42 : (x2 &&& (63 : Int32)) = (42 : Int32)
      · rw [if_pos j42] at hf
        rw [j42]
        refine v_tableIn (pc := 39) (off := 3140) (tgt := 3179) C dL_law_39 (by decide) (by decide) rfl rfl ?_
        refine v_aload_n (pc := 3179) (j := 1) C dL_law_3179 rfl rfl ?_
        refine v_aload_n (pc := 3180) (j := 0) C dL_law_3180 rfl rfl ?_
        refine v_iload (pc := 3181) (j := 4) C dL_law_3181 rfl ?_
        refine v_iconst (pc := 3183) (v := (1 : Int32)) C dL_law_3183 rfl ?_
        refine v_iadd (pc := 3184) C dL_law_3184 ?_
        obtain ⟨x155, ex155, hf⟩ := hf
        refine v_iaload (pc := 3185) C ex155 dL_law_3185 ?_
        refine v_aload_n (pc := 3186) (j := 3) C dL_law_3186 rfl rfl ?_
        obtain ⟨x156, h157, ex156, ox156, hf⟩ := hf
        refine v_wcall (pc := 3187) (As := [va_rf a1, .int x155, va_rf a3]) (rest := []) C L.2.2.2.2.2.1 q2306 q2307 q2308 q73 ⟨by decide +kernel, by decide +kernel⟩ (n9 := 3) (by decide +kernel) rfl (by decide) (by decide) (Nat.le_trans aw_0 (by decide)) rfl (mX0_passYears C.st ex156) dL_law_3187 ox156.1 (by have := L.2.1; have := ox156.2.1; omega) fun D1 h158 hs => ?_
        have L := L.step (by have := L.2.1; have := ox156.2.1; omega) hs (by have := L.2.1; have := ox156.2.2; have := L.2.2.2.2.2.2; omega)
        have hf := hf D1 h158 hs
        have C := L.1
        refine v_istore (pc := 3190) (lv' := [(5, false, .int x156), (0, false, va_rf a0), (1, false, va_rf a1), (2, false, va_rf a2), (3, false, va_rf a3), (4, false, .int a4)]) C dL_law_3190 (by decide) rfl ?_
        refine v_aload_n (pc := 3192) (j := 3) C dL_law_3192 rfl rfl ?_
        refine v_aload_n (pc := 3193) (j := 1) C dL_law_3193 rfl rfl ?_
        refine v_iload (pc := 3194) (j := 5) C dL_law_3194 rfl ?_
        refine v_iconst (pc := 3196) (v := (1 : Int32)) C dL_law_3196 rfl ?_
        refine v_iadd (pc := 3197) C dL_law_3197 ?_
        obtain ⟨x159, ex159, hf⟩ := hf
        refine v_iaload (pc := 3198) C ex159 dL_law_3198 ?_
        obtain ⟨b160, eb160, hf⟩ := hf
        obtain ⟨rb160, _, kb160⟩ := aIs_eq eb160
        obtain ⟨x161, h162, ex161, hf⟩ := hf
        refine v_call (pc := 3199) (d_V (pc := 3199) C (As := [.int x159]) (rest := []) rb160 kb160 nt_1 q2846 yi_X2_passYears_FigureSurveyModel yk_X2_passYears rfl (by decide) (by decide) (Nat.le_trans aw_0 (by decide)) rfl (mX2_passYears C.st ex161) dL_law_3199) ?_
        refine v_istore (pc := 3202) (lv' := [(6, false, .int x161), (5, false, .int x156), (0, false, va_rf a0), (1, false, va_rf a1), (2, false, va_rf a2), (3, false, va_rf a3), (4, false, .int a4)]) C dL_law_3202 (by decide) rfl ?_
        refine v_aload_n (pc := 3204) (j := 4) C dL_law_3204 rfl rfl ?_
        obtain ⟨b163, eb163, hf⟩ := hf
        obtain ⟨rb163, _, kb163⟩ := aIs_eq eb163
        obtain ⟨x164, ex164, hf⟩ := hf
        refine v_call (pc := 3205) (d_V (pc := 3205) C (As := []) (rest := []) rb163 kb163 nt_1 q2487 yi_X2_thrown_FigureSurveyModel yk_X2_thrown rfl (by decide) (by decide) (Nat.le_trans aw_0 (by decide)) rfl (mX2_thrown C.st ex164) dL_law_3205) ?_
        refine v_iload (pc := 3208) (j := 1) C dL_law_3208 rfl ?_
        refine v_icmp_eq (pc := 3210) (tgt := 3215) C dL_law_3210 rfl (fun hc => ?_) (fun hc => ?_)
        · rw [if_pos hc] at hf
          refine v_iload (pc := 3215) (j := 1) C dL_law_3215 rfl ?_
          refine v_if_ne (pc := 3217) (tgt := 3232) C dL_law_3217 rfl (fun hc => ?_) (fun hc => ?_)
          · rw [if_neg hc] at hf
            refine v_goto (pc := 3232) (tgt := 3952) C dL_law_3232 rfl ?_
            exact V.sub [2, 3, 4, 5, 6] rfl (vL_p3952 L ih hf)
          · rw [if_pos (Decidable.of_not_not hc)] at hf
            refine v_aload_n (pc := 3220) (j := 5) C dL_law_3220 rfl rfl ?_
            refine v_iconst (pc := 3221) (v := (0 : Int32)) C dL_law_3221 rfl ?_
            obtain ⟨x166, ex166, hf⟩ := hf
            refine v_laload (pc := 3222) C ex166 dL_law_3222 ?_
            refine v_iload (pc := 3223) (j := 0) C dL_law_3223 rfl ?_
            refine v_i2l (pc := 3225) C dL_law_3225 ?_
            refine v_lcmp (pc := 3226) C dL_law_3226 ?_
            refine v_if_eq (pc := 3227) (tgt := 3232) C dL_law_3227 rfl (fun hc => ?_) (fun hc => ?_)
            · rw [if_pos hc] at hf
              refine v_goto (pc := 3232) (tgt := 3952) C dL_law_3232 rfl ?_
              exact V.sub [2, 3, 4, 5, 6] rfl (vL_p3952 L ih hf)
            · rw [if_neg hc] at hf
              refine v_iconst (pc := 3230) (v := (0 : Int32)) C dL_law_3230 rfl ?_
              exact hf.elim
        · rw [if_neg hc] at hf
          refine v_iconst (pc := 3213) (v := (0 : Int32)) C dL_law_3213 rfl ?_
          exact hf.elim
      rw [if_neg j42] at hf
      by_cases j43 : (x2 &&& (63 : Int32)) = (43 : Int32)
      · rw [if_pos j43] at hf
        rw [j43]
        refine v_tableIn (pc := 39) (off := 3196) (tgt := 3235) C dL_law_39 (by decide) (by decide) rfl rfl ?_
        refine v_aload_n (pc := 3235) (j := 1) C dL_law_3235 rfl rfl ?_
        refine v_aload_n (pc := 3236) (j := 0) C dL_law_3236 rfl rfl ?_
        refine v_iload (pc := 3237) (j := 4) C dL_law_3237 rfl ?_
        refine v_iconst (pc := 3239) (v := (1 : Int32)) C dL_law_3239 rfl ?_
        refine v_iadd (pc := 3240) C dL_law_3240 ?_
        obtain ⟨x137, ex137, hf⟩ := hf
        refine v_iaload (pc := 3241) C ex137 dL_law_3241 ?_
        refine v_aload_n (pc := 3242) (j := 0) C dL_law_3242 rfl rfl ?_
        refine v_iload (pc := 3243) (j := 4) C dL_law_3243 rfl ?_
        refine v_iconst (pc := 3245) (v := (2 : Int32)) C dL_law_3245 rfl ?_
        refine v_iadd (pc := 3246) C dL_law_3246 ?_
        obtain ⟨x138, ex138, hf⟩ := hf
        refine v_iaload (pc := 3247) C ex138 dL_law_3247 ?_
        refine v_aload_n (pc := 3248) (j := 0) C dL_law_3248 rfl rfl ?_
        refine v_iload (pc := 3249) (j := 4) C dL_law_3249 rfl ?_
        refine v_iconst (pc := 3251) (v := (3 : Int32)) C dL_law_3251 rfl ?_
        refine v_iadd (pc := 3252) C dL_law_3252 ?_
        obtain ⟨x139, ex139, hf⟩ := hf
        refine v_iaload (pc := 3253) C ex139 dL_law_3253 ?_
        refine v_aload_n (pc := 3254) (j := 0) C dL_law_3254 rfl rfl ?_
        refine v_iload (pc := 3255) (j := 4) C dL_law_3255 rfl ?_
        refine v_iconst (pc := 3257) (v := (4 : Int32)) C dL_law_3257 rfl ?_
        refine v_iadd (pc := 3258) C dL_law_3258 ?_
        obtain ⟨x140, ex140, hf⟩ := hf
        refine v_iaload (pc := 3259) C ex140 dL_law_3259 ?_
        refine v_aload_n (pc := 3260) (j := 3) C dL_law_3260 rfl rfl ?_
        obtain ⟨x141, h142, ex141, ox141, hf⟩ := hf
        refine v_wcall (pc := 3261) (As := [va_rf a1, .int x137, .int x138, .int x139, .int x140, va_rf a3]) (rest := []) C L.2.2.2.2.2.1 q2319 q2320 q2321 q73 ⟨by decide +kernel, by decide +kernel⟩ (n9 := 6) (by decide +kernel) rfl (by decide) (by decide) (Nat.le_trans aw_0 (by decide)) rfl (mX0_setDecay C.st ex141) dL_law_3261 ox141.1 (by have := L.2.1; have := ox141.2.1; omega) fun D1 h143 hs => ?_
        have L := L.step (by have := L.2.1; have := ox141.2.1; omega) hs (by have := L.2.1; have := ox141.2.2; have := L.2.2.2.2.2.2; omega)
        have hf := hf D1 h143 hs
        have C := L.1
        refine v_istore (pc := 3264) (lv' := [(5, false, .int x141), (0, false, va_rf a0), (1, false, va_rf a1), (2, false, va_rf a2), (3, false, va_rf a3), (4, false, .int a4)]) C dL_law_3264 (by decide) rfl ?_
        refine v_aload_n (pc := 3266) (j := 3) C dL_law_3266 rfl rfl ?_
        refine v_aload_n (pc := 3267) (j := 1) C dL_law_3267 rfl rfl ?_
        refine v_iload (pc := 3268) (j := 5) C dL_law_3268 rfl ?_
        refine v_iconst (pc := 3270) (v := (1 : Int32)) C dL_law_3270 rfl ?_
        refine v_iadd (pc := 3271) C dL_law_3271 ?_
        obtain ⟨x144, ex144, hf⟩ := hf
        refine v_iaload (pc := 3272) C ex144 dL_law_3272 ?_
        refine v_aload_n (pc := 3273) (j := 1) C dL_law_3273 rfl rfl ?_
        refine v_iload (pc := 3274) (j := 5) C dL_law_3274 rfl ?_
        refine v_iconst (pc := 3276) (v := (2 : Int32)) C dL_law_3276 rfl ?_
        refine v_iadd (pc := 3277) C dL_law_3277 ?_
        obtain ⟨x145, ex145, hf⟩ := hf
        refine v_iaload (pc := 3278) C ex145 dL_law_3278 ?_
        refine v_aload_n (pc := 3279) (j := 1) C dL_law_3279 rfl rfl ?_
        refine v_iload (pc := 3280) (j := 5) C dL_law_3280 rfl ?_
        refine v_iconst (pc := 3282) (v := (3 : Int32)) C dL_law_3282 rfl ?_
        refine v_iadd (pc := 3283) C dL_law_3283 ?_
        obtain ⟨x146, ex146, hf⟩ := hf
        refine v_iaload (pc := 3284) C ex146 dL_law_3284 ?_
        refine v_aload_n (pc := 3285) (j := 1) C dL_law_3285 rfl rfl ?_
        refine v_iload (pc := 3286) (j := 5) C dL_law_3286 rfl ?_
        refine v_iconst (pc := 3288) (v := (4 : Int32)) C dL_law_3288 rfl ?_
        refine v_iadd (pc := 3289) C dL_law_3289 ?_
        obtain ⟨x147, ex147, hf⟩ := hf
        refine v_iaload (pc := 3290) C ex147 dL_law_3290 ?_
        obtain ⟨b148, eb148, hf⟩ := hf
        obtain ⟨rb148, _, kb148⟩ := aIs_eq eb148
        obtain ⟨x149, h150, ex149, hf⟩ := hf
        refine v_call (pc := 3291) (d_V (pc := 3291) C (As := [.int x144, .int x145, .int x146, .int x147]) (rest := []) rb148 kb148 nt_1 q2854 yi_X2_setDecay_FigureSurveyModel yk_X2_setDecay rfl (by decide) (by decide) (Nat.le_trans aw_0 (by decide)) rfl (mX2_setDecay C.st ex149) dL_law_3291) ?_
        refine v_istore (pc := 3294) (lv' := [(6, false, .int x149), (5, false, .int x141), (0, false, va_rf a0), (1, false, va_rf a1), (2, false, va_rf a2), (3, false, va_rf a3), (4, false, .int a4)]) C dL_law_3294 (by decide) rfl ?_
        refine v_aload_n (pc := 3296) (j := 4) C dL_law_3296 rfl rfl ?_
        obtain ⟨b151, eb151, hf⟩ := hf
        obtain ⟨rb151, _, kb151⟩ := aIs_eq eb151
        obtain ⟨x152, ex152, hf⟩ := hf
        refine v_call (pc := 3297) (d_V (pc := 3297) C (As := []) (rest := []) rb151 kb151 nt_1 q2487 yi_X2_thrown_FigureSurveyModel yk_X2_thrown rfl (by decide) (by decide) (Nat.le_trans aw_0 (by decide)) rfl (mX2_thrown C.st ex152) dL_law_3297) ?_
        refine v_iload (pc := 3300) (j := 1) C dL_law_3300 rfl ?_
        refine v_icmp_eq (pc := 3302) (tgt := 3307) C dL_law_3302 rfl (fun hc => ?_) (fun hc => ?_)
        · rw [if_pos hc] at hf
          refine v_iload (pc := 3307) (j := 1) C dL_law_3307 rfl ?_
          refine v_if_ne (pc := 3309) (tgt := 3324) C dL_law_3309 rfl (fun hc => ?_) (fun hc => ?_)
          · rw [if_neg hc] at hf
            refine v_goto (pc := 3324) (tgt := 3952) C dL_law_3324 rfl ?_
            exact V.sub [2, 3, 4, 5, 6] rfl (vL_p3952 L ih hf)
          · rw [if_pos (Decidable.of_not_not hc)] at hf
            refine v_aload_n (pc := 3312) (j := 5) C dL_law_3312 rfl rfl ?_
            refine v_iconst (pc := 3313) (v := (0 : Int32)) C dL_law_3313 rfl ?_
            obtain ⟨x154, ex154, hf⟩ := hf
            refine v_laload (pc := 3314) C ex154 dL_law_3314 ?_
            refine v_iload (pc := 3315) (j := 0) C dL_law_3315 rfl ?_
            refine v_i2l (pc := 3317) C dL_law_3317 ?_
            refine v_lcmp (pc := 3318) C dL_law_3318 ?_
            refine v_if_eq (pc := 3319) (tgt := 3324) C dL_law_3319 rfl (fun hc => ?_) (fun hc => ?_)
            · rw [if_pos hc] at hf
              refine v_goto (pc := 3324) (tgt := 3952) C dL_law_3324 rfl ?_
              exact V.sub [2, 3, 4, 5, 6] rfl (vL_p3952 L ih hf)
            · rw [if_neg hc] at hf
              refine v_iconst (pc := 3322) (v := (0 : Int32)) C dL_law_3322 rfl ?_
              exact hf.elim
        · rw [if_neg hc] at hf
          refine v_iconst (pc := 3305) (v := (0 : Int32)) C dL_law_3305 rfl ?_
          exact hf.elim
      rw [if_neg j43] at hf
      by_cases j44 : (x2 &&& (63 : Int32)) = (44 : Int32)
      · rw [if_pos j44] at hf
        rw [j44]
        refine v_tableIn (pc := 39) (off := 3288) (tgt := 3327) C dL_law_39 (by decide) (by decide) rfl rfl ?_
        refine v_aload_n (pc := 3327) (j := 1) C dL_law_3327 rfl rfl ?_
        refine v_aload_n (pc := 3328) (j := 0) C dL_law_3328 rfl rfl ?_
        refine v_iload (pc := 3329) (j := 4) C dL_law_3329 rfl ?_
        refine v_iconst (pc := 3331) (v := (1 : Int32)) C dL_law_3331 rfl ?_
        refine v_iadd (pc := 3332) C dL_law_3332 ?_
        obtain ⟨x125, ex125, hf⟩ := hf
        refine v_iaload (pc := 3333) C ex125 dL_law_3333 ?_
        refine v_aload_n (pc := 3334) (j := 3) C dL_law_3334 rfl rfl ?_
        obtain ⟨x126, h127, ex126, ox126, hf⟩ := hf
        refine v_wcall (pc := 3335) (As := [va_rf a1, .int x125, va_rf a3]) (rest := []) C L.2.2.2.2.2.1 q2326 q2327 q2328 q73 ⟨by decide +kernel, by decide +kernel⟩ (n9 := 3) (by decide +kernel) rfl (by decide) (by decide) (Nat.le_trans aw_0 (by decide)) rfl (mX0_healthOf C.st ex126) dL_law_3335 ox126.1 (by have := L.2.1; have := ox126.2.1; omega) fun D1 h128 hs => ?_
        have L := L.step (by have := L.2.1; have := ox126.2.1; omega) hs (by have := L.2.1; have := ox126.2.2; have := L.2.2.2.2.2.2; omega)
        have hf := hf D1 h128 hs
        have C := L.1
        refine v_istore (pc := 3338) (lv' := [(5, false, .int x126), (0, false, va_rf a0), (1, false, va_rf a1), (2, false, va_rf a2), (3, false, va_rf a3), (4, false, .int a4)]) C dL_law_3338 (by decide) rfl ?_
        refine v_aload_n (pc := 3340) (j := 3) C dL_law_3340 rfl rfl ?_
        refine v_aload_n (pc := 3341) (j := 1) C dL_law_3341 rfl rfl ?_
        refine v_iload (pc := 3342) (j := 5) C dL_law_3342 rfl ?_
        refine v_iconst (pc := 3344) (v := (1 : Int32)) C dL_law_3344 rfl ?_
        refine v_iadd (pc := 3345) C dL_law_3345 ?_
        obtain ⟨x129, ex129, hf⟩ := hf
        refine v_iaload (pc := 3346) C ex129 dL_law_3346 ?_
        obtain ⟨b130, eb130, hf⟩ := hf
        obtain ⟨rb130, _, kb130⟩ := aIs_eq eb130
        obtain ⟨x131, h132, ex131, hf⟩ := hf
        refine v_call (pc := 3347) (d_V (pc := 3347) C (As := [.int x129]) (rest := []) rb130 kb130 nt_1 q2858 yi_X2_healthOf_FigureSurveyModel yk_X2_healthOf rfl (by decide) (by decide) (Nat.le_trans aw_0 (by decide)) rfl (mX2_healthOf C.st ex131) dL_law_3347) ?_
        refine v_istore (pc := 3350) (lv' := [(6, false, .int x131), (5, false, .int x126), (0, false, va_rf a0), (1, false, va_rf a1), (2, false, va_rf a2), (3, false, va_rf a3), (4, false, .int a4)]) C dL_law_3350 (by decide) rfl ?_
        refine v_aload_n (pc := 3352) (j := 4) C dL_law_3352 rfl rfl ?_
        obtain ⟨b133, eb133, hf⟩ := hf
        obtain ⟨rb133, _, kb133⟩ := aIs_eq eb133
        obtain ⟨x134, ex134, hf⟩ := hf
        refine v_call (pc := 3353) (d_V (pc := 3353) C (As := []) (rest := []) rb133 kb133 nt_1 q2487 yi_X2_thrown_FigureSurveyModel yk_X2_thrown rfl (by decide) (by decide) (Nat.le_trans aw_0 (by decide)) rfl (mX2_thrown C.st ex134) dL_law_3353) ?_
        refine v_iload (pc := 3356) (j := 1) C dL_law_3356 rfl ?_
        refine v_icmp_eq (pc := 3358) (tgt := 3363) C dL_law_3358 rfl (fun hc => ?_) (fun hc => ?_)
        · rw [if_pos hc] at hf
          refine v_iload (pc := 3363) (j := 1) C dL_law_3363 rfl ?_
          refine v_if_ne (pc := 3365) (tgt := 3380) C dL_law_3365 rfl (fun hc => ?_) (fun hc => ?_)
          · rw [if_neg hc] at hf
            refine v_goto (pc := 3380) (tgt := 3952) C dL_law_3380 rfl ?_
            exact V.sub [2, 3, 4, 5, 6] rfl (vL_p3952 L ih hf)
          · rw [if_pos (Decidable.of_not_not hc)] at hf
            refine v_aload_n (pc := 3368) (j := 5) C dL_law_3368 rfl rfl ?_
            refine v_iconst (pc := 3369) (v := (0 : Int32)) C dL_law_3369 rfl ?_
            obtain ⟨x136, ex136, hf⟩ := hf
            refine v_laload (pc := 3370) C ex136 dL_law_3370 ?_
            refine v_iload (pc := 3371) (j := 0) C dL_law_3371 rfl ?_
            refine v_i2l (pc := 3373) C dL_law_3373 ?_
            refine v_lcmp (pc := 3374) C dL_law_3374 ?_
            refine v_if_eq (pc := 3375) (tgt := 3380) C dL_law_3375 rfl (fun hc => ?_) (fun hc => ?_)
            · rw [if_pos hc] at hf
              refine v_goto (pc := 3380) (tgt := 3952) C dL_law_3380 rfl ?_
              exact V.sub [2, 3, 4, 5, 6] rfl (vL_p3952 L ih hf)
            · rw [if_neg hc] at hf
              refine v_iconst (pc := 3378) (v := (0 : Int32)) C dL_law_3378 rfl ?_
              exact hf.elim
        · rw [if_neg hc] at hf
          refine v_iconst (pc := 3361) (v := (0 : Int32)) C dL_law_3361 rfl ?_
          exact hf.elim
      rw [if_neg j44] at hf
      by_cases j45 : (x2 &&& (63 : Int32)) = (45 : Int32)
      · rw [if_pos j45] at hf
        rw [j45]
        refine v_tableIn (pc := 39) (off := 3344) (tgt := 3383) C dL_law_39 (by decide) (by decide) rfl rfl ?_
        refine v_aload_n (pc := 3383) (j := 1) C dL_law_3383 rfl rfl ?_
        refine v_aload_n (pc := 3384) (j := 0) C dL_law_3384 rfl rfl ?_
        refine v_iload (pc := 3385) (j := 4) C dL_law_3385 rfl ?_
        refine v_iconst (pc := 3387) (v := (1 : Int32)) C dL_law_3387 rfl ?_
        refine v_iadd (pc := 3388) C dL_law_3388 ?_
        obtain ⟨x109, ex109, hf⟩ := hf
        refine v_iaload (pc := 3389) C ex109 dL_law_3389 ?_
        refine v_aload_n (pc := 3390) (j := 0) C dL_law_3390 rfl rfl ?_
        refine v_iload (pc := 3391) (j := 4) C dL_law_3391 rfl ?_
        refine v_iconst (pc := 3393) (v := (2 : Int32)) C dL_law_3393 rfl ?_
        refine v_iadd (pc := 3394) C dL_law_3394 ?_
        obtain ⟨x110, ex110, hf⟩ := hf
        refine v_iaload (pc := 3395) C ex110 dL_law_3395 ?_
        refine v_aload_n (pc := 3396) (j := 0) C dL_law_3396 rfl rfl ?_
        refine v_iload (pc := 3397) (j := 4) C dL_law_3397 rfl ?_
        refine v_iconst (pc := 3399) (v := (3 : Int32)) C dL_law_3399 rfl ?_
        refine v_iadd (pc := 3400) C dL_law_3400 ?_
        obtain ⟨x111, ex111, hf⟩ := hf
        refine v_iaload (pc := 3401) C ex111 dL_law_3401 ?_
        refine v_aload_n (pc := 3402) (j := 3) C dL_law_3402 rfl rfl ?_
        obtain ⟨x112, h113, ex112, ox112, hf⟩ := hf
        refine v_wcall (pc := 3403) (As := [va_rf a1, .int x109, .int x110, .int x111, va_rf a3]) (rest := []) C L.2.2.2.2.2.1 q2333 q2334 q2335 q73 ⟨by decide +kernel, by decide +kernel⟩ (n9 := 5) (by decide +kernel) rfl (by decide) (by decide) (Nat.le_trans aw_0 (by decide)) rfl (mX0_addWork C.st ex112) dL_law_3403 ox112.1 (by have := L.2.1; have := ox112.2.1; omega) fun D1 h114 hs => ?_
        have L := L.step (by have := L.2.1; have := ox112.2.1; omega) hs (by have := L.2.1; have := ox112.2.2; have := L.2.2.2.2.2.2; omega)
        have hf := hf D1 h114 hs
        have C := L.1
        refine v_istore (pc := 3406) (lv' := [(5, false, .int x112), (0, false, va_rf a0), (1, false, va_rf a1), (2, false, va_rf a2), (3, false, va_rf a3), (4, false, .int a4)]) C dL_law_3406 (by decide) rfl ?_
        refine v_aload_n (pc := 3408) (j := 3) C dL_law_3408 rfl rfl ?_
        refine v_aload_n (pc := 3409) (j := 1) C dL_law_3409 rfl rfl ?_
        refine v_iload (pc := 3410) (j := 5) C dL_law_3410 rfl ?_
        refine v_iconst (pc := 3412) (v := (1 : Int32)) C dL_law_3412 rfl ?_
        refine v_iadd (pc := 3413) C dL_law_3413 ?_
        obtain ⟨x115, ex115, hf⟩ := hf
        refine v_iaload (pc := 3414) C ex115 dL_law_3414 ?_
        refine v_aload_n (pc := 3415) (j := 1) C dL_law_3415 rfl rfl ?_
        refine v_iload (pc := 3416) (j := 5) C dL_law_3416 rfl ?_
        refine v_iconst (pc := 3418) (v := (2 : Int32)) C dL_law_3418 rfl ?_
        refine v_iadd (pc := 3419) C dL_law_3419 ?_
        obtain ⟨x116, ex116, hf⟩ := hf
        refine v_iaload (pc := 3420) C ex116 dL_law_3420 ?_
        refine v_aload_n (pc := 3421) (j := 1) C dL_law_3421 rfl rfl ?_
        refine v_iload (pc := 3422) (j := 5) C dL_law_3422 rfl ?_
        refine v_iconst (pc := 3424) (v := (3 : Int32)) C dL_law_3424 rfl ?_
        refine v_iadd (pc := 3425) C dL_law_3425 ?_
        obtain ⟨x117, ex117, hf⟩ := hf
        refine v_iaload (pc := 3426) C ex117 dL_law_3426 ?_
        obtain ⟨b118, eb118, hf⟩ := hf
        obtain ⟨rb118, _, kb118⟩ := aIs_eq eb118
        obtain ⟨x119, h120, ex119, hf⟩ := hf
        refine v_call (pc := 3427) (d_V (pc := 3427) C (As := [.int x115, .int x116, .int x117]) (rest := []) rb118 kb118 nt_1 q2862 yi_X2_addWork_FigureSurveyModel yk_X2_addWork rfl (by decide) (by decide) (Nat.le_trans aw_0 (by decide)) rfl (mX2_addWork C.st ex119) dL_law_3427) ?_
        refine v_istore (pc := 3430) (lv' := [(6, false, .int x119), (5, false, .int x112), (0, false, va_rf a0), (1, false, va_rf a1), (2, false, va_rf a2), (3, false, va_rf a3), (4, false, .int a4)]) C dL_law_3430 (by decide) rfl ?_
        refine v_aload_n (pc := 3432) (j := 4) C dL_law_3432 rfl rfl ?_
        obtain ⟨b121, eb121, hf⟩ := hf
        obtain ⟨rb121, _, kb121⟩ := aIs_eq eb121
        obtain ⟨x122, ex122, hf⟩ := hf
        refine v_call (pc := 3433) (d_V (pc := 3433) C (As := []) (rest := []) rb121 kb121 nt_1 q2487 yi_X2_thrown_FigureSurveyModel yk_X2_thrown rfl (by decide) (by decide) (Nat.le_trans aw_0 (by decide)) rfl (mX2_thrown C.st ex122) dL_law_3433) ?_
        refine v_iload (pc := 3436) (j := 1) C dL_law_3436 rfl ?_
        refine v_icmp_eq (pc := 3438) (tgt := 3443) C dL_law_3438 rfl (fun hc => ?_) (fun hc => ?_)
        · rw [if_pos hc] at hf
          refine v_iload (pc := 3443) (j := 1) C dL_law_3443 rfl ?_
          refine v_if_ne (pc := 3445) (tgt := 3460) C dL_law_3445 rfl (fun hc => ?_) (fun hc => ?_)
          · rw [if_neg hc] at hf
            refine v_goto (pc := 3460) (tgt := 3952) C dL_law_3460 rfl ?_
            exact V.sub [2, 3, 4, 5, 6] rfl (vL_p3952 L ih hf)
          · rw [if_pos (Decidable.of_not_not hc)] at hf
            refine v_aload_n (pc := 3448) (j := 5) C dL_law_3448 rfl rfl ?_
            refine v_iconst (pc := 3449) (v := (0 : Int32)) C dL_law_3449 rfl ?_
            obtain ⟨x124, ex124, hf⟩ := hf
            refine v_laload (pc := 3450) C ex124 dL_law_3450 ?_
            refine v_iload (pc := 3451) (j := 0) C dL_law_3451 rfl ?_
            refine v_i2l (pc := 3453) C dL_law_3453 ?_
            refine v_lcmp (pc := 3454) C dL_law_3454 ?_
            refine v_if_eq (pc := 3455) (tgt := 3460) C dL_law_3455 rfl (fun hc => ?_) (fun hc => ?_)
            · rw [if_pos hc] at hf
              refine v_goto (pc := 3460) (tgt := 3952) C dL_law_3460 rfl ?_
              exact V.sub [2, 3, 4, 5, 6] rfl (vL_p3952 L ih hf)
            · rw [if_neg hc] at hf
              refine v_iconst (pc := 3458) (v := (0 : Int32)) C dL_law_3458 rfl ?_
              exact hf.elim
        · rw [if_neg hc] at hf
          refine v_iconst (pc := 3441) (v := (0 : Int32)) C dL_law_3441 rfl ?_
          exact hf.elim
      rw [if_neg j45] at hf
      by_cases j46 : (x2 &&& (63 : Int32)) = (46 : Int32)
      · rw [if_pos j46] at hf
        rw [j46]
        refine v_tableIn (pc := 39) (off := 3424) (tgt := 3463) C dL_law_39 (by decide) (by decide) rfl rfl ?_
        refine v_aload_n (pc := 3463) (j := 1) C dL_law_3463 rfl rfl ?_
        refine v_aload_n (pc := 3464) (j := 0) C dL_law_3464 rfl rfl ?_
        refine v_iload (pc := 3465) (j := 4) C dL_law_3465 rfl ?_
        refine v_iconst (pc := 3467) (v := (1 : Int32)) C dL_law_3467 rfl ?_
        refine v_iadd (pc := 3468) C dL_law_3468 ?_
        obtain ⟨x97, ex97, hf⟩ := hf
        refine v_iaload (pc := 3469) C ex97 dL_law_3469 ?_
        refine v_aload_n (pc := 3470) (j := 3) C dL_law_3470 rfl rfl ?_
        obtain ⟨x98, h99, ex98, ox98, hf⟩ := hf
        refine v_wcall (pc := 3471) (As := [va_rf a1, .int x97, va_rf a3]) (rest := []) C L.2.2.2.2.2.1 q2362 q2363 q2364 q73 ⟨by decide +kernel, by decide +kernel⟩ (n9 := 3) (by decide +kernel) rfl (by decide) (by decide) (Nat.le_trans aw_0 (by decide)) rfl (mX0_worksFor C.st ex98) dL_law_3471 ox98.1 (by have := L.2.1; have := ox98.2.1; omega) fun D1 h100 hs => ?_
        have L := L.step (by have := L.2.1; have := ox98.2.1; omega) hs (by have := L.2.1; have := ox98.2.2; have := L.2.2.2.2.2.2; omega)
        have hf := hf D1 h100 hs
        have C := L.1
        refine v_istore (pc := 3474) (lv' := [(5, false, .int x98), (0, false, va_rf a0), (1, false, va_rf a1), (2, false, va_rf a2), (3, false, va_rf a3), (4, false, .int a4)]) C dL_law_3474 (by decide) rfl ?_
        refine v_aload_n (pc := 3476) (j := 3) C dL_law_3476 rfl rfl ?_
        refine v_aload_n (pc := 3477) (j := 1) C dL_law_3477 rfl rfl ?_
        refine v_iload (pc := 3478) (j := 5) C dL_law_3478 rfl ?_
        refine v_iconst (pc := 3480) (v := (1 : Int32)) C dL_law_3480 rfl ?_
        refine v_iadd (pc := 3481) C dL_law_3481 ?_
        obtain ⟨x101, ex101, hf⟩ := hf
        refine v_iaload (pc := 3482) C ex101 dL_law_3482 ?_
        obtain ⟨b102, eb102, hf⟩ := hf
        obtain ⟨rb102, _, kb102⟩ := aIs_eq eb102
        obtain ⟨x103, h104, ex103, hf⟩ := hf
        refine v_call (pc := 3483) (d_V (pc := 3483) C (As := [.int x101]) (rest := []) rb102 kb102 nt_1 q2866 yi_X2_worksFor_FigureSurveyModel yk_X2_worksFor rfl (by decide) (by decide) (Nat.le_trans aw_0 (by decide)) rfl (mX2_worksFor C.st ex103) dL_law_3483) ?_
        refine v_istore (pc := 3486) (lv' := [(6, false, .int x103), (5, false, .int x98), (0, false, va_rf a0), (1, false, va_rf a1), (2, false, va_rf a2), (3, false, va_rf a3), (4, false, .int a4)]) C dL_law_3486 (by decide) rfl ?_
        refine v_aload_n (pc := 3488) (j := 4) C dL_law_3488 rfl rfl ?_
        obtain ⟨b105, eb105, hf⟩ := hf
        obtain ⟨rb105, _, kb105⟩ := aIs_eq eb105
        obtain ⟨x106, ex106, hf⟩ := hf
        refine v_call (pc := 3489) (d_V (pc := 3489) C (As := []) (rest := []) rb105 kb105 nt_1 q2487 yi_X2_thrown_FigureSurveyModel yk_X2_thrown rfl (by decide) (by decide) (Nat.le_trans aw_0 (by decide)) rfl (mX2_thrown C.st ex106) dL_law_3489) ?_
        refine v_iload (pc := 3492) (j := 1) C dL_law_3492 rfl ?_
        refine v_icmp_eq (pc := 3494) (tgt := 3499) C dL_law_3494 rfl (fun hc => ?_) (fun hc => ?_)
        · rw [if_pos hc] at hf
          refine v_iload (pc := 3499) (j := 1) C dL_law_3499 rfl ?_
          refine v_if_ne (pc := 3501) (tgt := 3516) C dL_law_3501 rfl (fun hc => ?_) (fun hc => ?_)
          · rw [if_neg hc] at hf
            refine v_goto (pc := 3516) (tgt := 3952) C dL_law_3516 rfl ?_
            exact V.sub [2, 3, 4, 5, 6] rfl (vL_p3952 L ih hf)
          · rw [if_pos (Decidable.of_not_not hc)] at hf
            refine v_aload_n (pc := 3504) (j := 5) C dL_law_3504 rfl rfl ?_
            refine v_iconst (pc := 3505) (v := (0 : Int32)) C dL_law_3505 rfl ?_
            obtain ⟨x108, ex108, hf⟩ := hf
            refine v_laload (pc := 3506) C ex108 dL_law_3506 ?_
            refine v_iload (pc := 3507) (j := 0) C dL_law_3507 rfl ?_
            refine v_i2l (pc := 3509) C dL_law_3509 ?_
            refine v_lcmp (pc := 3510) C dL_law_3510 ?_
            refine v_if_eq (pc := 3511) (tgt := 3516) C dL_law_3511 rfl (fun hc => ?_) (fun hc => ?_)
            · rw [if_pos hc] at hf
              refine v_goto (pc := 3516) (tgt := 3952) C dL_law_3516 rfl ?_
              exact V.sub [2, 3, 4, 5, 6] rfl (vL_p3952 L ih hf)
            · rw [if_neg hc] at hf
              refine v_iconst (pc := 3514) (v := (0 : Int32)) C dL_law_3514 rfl ?_
              exact hf.elim
        · rw [if_neg hc] at hf
          refine v_iconst (pc := 3497) (v := (0 : Int32)) C dL_law_3497 rfl ?_
          exact hf.elim
      rw [if_neg j46] at hf
      by_cases j47 : (x2 &&& (63 : Int32)) = (47 : Int32)
      · rw [if_pos j47] at hf
        rw [j47]
        refine v_tableIn (pc := 39) (off := 3480) (tgt := 3519) C dL_law_39 (by decide) (by decide) rfl rfl ?_
        refine v_aload_n (pc := 3519) (j := 1) C dL_law_3519 rfl rfl ?_
        refine v_aload_n (pc := 3520) (j := 0) C dL_law_3520 rfl rfl ?_
        refine v_iload (pc := 3521) (j := 4) C dL_law_3521 rfl ?_
        refine v_iconst (pc := 3523) (v := (1 : Int32)) C dL_law_3523 rfl ?_
        refine v_iadd (pc := 3524) C dL_law_3524 ?_
        obtain ⟨x85, ex85, hf⟩ := hf
        refine v_iaload (pc := 3525) C ex85 dL_law_3525 ?_
        refine v_aload_n (pc := 3526) (j := 3) C dL_law_3526 rfl rfl ?_
        obtain ⟨x86, h87, ex86, ox86, hf⟩ := hf
        refine v_wcall (pc := 3527) (As := [va_rf a1, .int x85, va_rf a3]) (rest := []) C L.2.2.2.2.2.1 q2374 q2375 q2376 q73 ⟨by decide +kernel, by decide +kernel⟩ (n9 := 3) (by decide +kernel) rfl (by decide) (by decide) (Nat.le_trans aw_0 (by decide)) rfl (mX0_doWorks C.st ex86) dL_law_3527 ox86.1 (by have := L.2.1; have := ox86.2.1; omega) fun D1 h88 hs => ?_
        have L := L.step (by have := L.2.1; have := ox86.2.1; omega) hs (by have := L.2.1; have := ox86.2.2; have := L.2.2.2.2.2.2; omega)
        have hf := hf D1 h88 hs
        have C := L.1
        refine v_istore (pc := 3530) (lv' := [(5, false, .int x86), (0, false, va_rf a0), (1, false, va_rf a1), (2, false, va_rf a2), (3, false, va_rf a3), (4, false, .int a4)]) C dL_law_3530 (by decide) rfl ?_
        refine v_aload_n (pc := 3532) (j := 3) C dL_law_3532 rfl rfl ?_
        refine v_aload_n (pc := 3533) (j := 1) C dL_law_3533 rfl rfl ?_
        refine v_iload (pc := 3534) (j := 5) C dL_law_3534 rfl ?_
        refine v_iconst (pc := 3536) (v := (1 : Int32)) C dL_law_3536 rfl ?_
        refine v_iadd (pc := 3537) C dL_law_3537 ?_
        obtain ⟨x89, ex89, hf⟩ := hf
        refine v_iaload (pc := 3538) C ex89 dL_law_3538 ?_
        obtain ⟨b90, eb90, hf⟩ := hf
        obtain ⟨rb90, _, kb90⟩ := aIs_eq eb90
        obtain ⟨x91, h92, ex91, hf⟩ := hf
        refine v_call (pc := 3539) (d_V (pc := 3539) C (As := [.int x89]) (rest := []) rb90 kb90 nt_1 q2878 yi_X2_doWorks_FigureSurveyModel yk_X2_doWorks rfl (by decide) (by decide) (Nat.le_trans aw_0 (by decide)) rfl (mX2_doWorks C.st ex91) dL_law_3539) ?_
        refine v_istore (pc := 3542) (lv' := [(6, false, .int x91), (5, false, .int x86), (0, false, va_rf a0), (1, false, va_rf a1), (2, false, va_rf a2), (3, false, va_rf a3), (4, false, .int a4)]) C dL_law_3542 (by decide) rfl ?_
        refine v_aload_n (pc := 3544) (j := 4) C dL_law_3544 rfl rfl ?_
        obtain ⟨b93, eb93, hf⟩ := hf
        obtain ⟨rb93, _, kb93⟩ := aIs_eq eb93
        obtain ⟨x94, ex94, hf⟩ := hf
        refine v_call (pc := 3545) (d_V (pc := 3545) C (As := []) (rest := []) rb93 kb93 nt_1 q2487 yi_X2_thrown_FigureSurveyModel yk_X2_thrown rfl (by decide) (by decide) (Nat.le_trans aw_0 (by decide)) rfl (mX2_thrown C.st ex94) dL_law_3545) ?_
        refine v_iload (pc := 3548) (j := 1) C dL_law_3548 rfl ?_
        refine v_icmp_eq (pc := 3550) (tgt := 3555) C dL_law_3550 rfl (fun hc => ?_) (fun hc => ?_)
        · rw [if_pos hc] at hf
          refine v_iload (pc := 3555) (j := 1) C dL_law_3555 rfl ?_
          refine v_if_ne (pc := 3557) (tgt := 3572) C dL_law_3557 rfl (fun hc => ?_) (fun hc => ?_)
          · rw [if_neg hc] at hf
            refine v_goto (pc := 3572) (tgt := 3952) C dL_law_3572 rfl ?_
            exact V.sub [2, 3, 4, 5, 6] rfl (vL_p3952 L ih hf)
          · rw [if_pos (Decidable.of_not_not hc)] at hf
            refine v_aload_n (pc := 3560) (j := 5) C dL_law_3560 rfl rfl ?_
            refine v_iconst (pc := 3561) (v := (0 : Int32)) C dL_law_3561 rfl ?_
            obtain ⟨x96, ex96, hf⟩ := hf
            refine v_laload (pc := 3562) C ex96 dL_law_3562 ?_
            refine v_iload (pc := 3563) (j := 0) C dL_law_3563 rfl ?_
            refine v_i2l (pc := 3565) C dL_law_3565 ?_
            refine v_lcmp (pc := 3566) C dL_law_3566 ?_
            refine v_if_eq (pc := 3567) (tgt := 3572) C dL_law_3567 rfl (fun hc => ?_) (fun hc => ?_)
            · rw [if_pos hc] at hf
              refine v_goto (pc := 3572) (tgt := 3952) C dL_law_3572 rfl ?_
              exact V.sub [2, 3, 4, 5, 6] rfl (vL_p3952 L ih hf)
            · rw [if_neg hc] at hf
              refine v_iconst (pc := 3570) (v := (0 : Int32)) C dL_law_3570 rfl ?_
              exact hf.elim
        · rw [if_neg hc] at hf
          refine v_iconst (pc := 3553) (v := (0 : Int32)) C dL_law_3553 rfl ?_
          exact hf.elim
      rw [if_neg j47] at hf
      by_cases j48 : (x2 &&& (63 : Int32)) = (48 : Int32)
      · rw [if_pos j48] at hf
        rw [j48]
        refine v_tableIn (pc := 39) (off := 3536) (tgt := 3575) C dL_law_39 (by decide) (by decide) rfl rfl ?_
        refine v_aload_n (pc := 3575) (j := 1) C dL_law_3575 rfl rfl ?_
        refine v_aload_n (pc := 3576) (j := 0) C dL_law_3576 rfl rfl ?_
        refine v_iload (pc := 3577) (j := 4) C dL_law_3577 rfl ?_
        refine v_iconst (pc := 3579) (v := (1 : Int32)) C dL_law_3579 rfl ?_
        refine v_iadd (pc := 3580) C dL_law_3580 ?_
        obtain ⟨x71, ex71, hf⟩ := hf
        refine v_iaload (pc := 3581) C ex71 dL_law_3581 ?_
        refine v_aload_n (pc := 3582) (j := 0) C dL_law_3582 rfl rfl ?_
        refine v_iload (pc := 3583) (j := 4) C dL_law_3583 rfl ?_
        refine v_iconst (pc := 3585) (v := (2 : Int32)) C dL_law_3585 rfl ?_
        refine v_iadd (pc := 3586) C dL_law_3586 ?_
        obtain ⟨x72, ex72, hf⟩ := hf
        refine v_iaload (pc := 3587) C ex72 dL_law_3587 ?_
        refine v_aload_n (pc := 3588) (j := 3) C dL_law_3588 rfl rfl ?_
        obtain ⟨x73, h74, ex73, ox73, hf⟩ := hf
        refine v_wcall (pc := 3589) (As := [va_rf a1, .int x71, .int x72, va_rf a3]) (rest := []) C L.2.2.2.2.2.1 q2381 q2382 q2383 q73 ⟨by decide +kernel, by decide +kernel⟩ (n9 := 4) (by decide +kernel) rfl (by decide) (by decide) (Nat.le_trans aw_0 (by decide)) rfl (mX0_setLoad C.st ex73) dL_law_3589 ox73.1 (by have := L.2.1; have := ox73.2.1; omega) fun D1 h75 hs => ?_
        have L := L.step (by have := L.2.1; have := ox73.2.1; omega) hs (by have := L.2.1; have := ox73.2.2; have := L.2.2.2.2.2.2; omega)
        have hf := hf D1 h75 hs
        have C := L.1
        refine v_istore (pc := 3592) (lv' := [(5, false, .int x73), (0, false, va_rf a0), (1, false, va_rf a1), (2, false, va_rf a2), (3, false, va_rf a3), (4, false, .int a4)]) C dL_law_3592 (by decide) rfl ?_
        refine v_aload_n (pc := 3594) (j := 3) C dL_law_3594 rfl rfl ?_
        refine v_aload_n (pc := 3595) (j := 1) C dL_law_3595 rfl rfl ?_
        refine v_iload (pc := 3596) (j := 5) C dL_law_3596 rfl ?_
        refine v_iconst (pc := 3598) (v := (1 : Int32)) C dL_law_3598 rfl ?_
        refine v_iadd (pc := 3599) C dL_law_3599 ?_
        obtain ⟨x76, ex76, hf⟩ := hf
        refine v_iaload (pc := 3600) C ex76 dL_law_3600 ?_
        refine v_aload_n (pc := 3601) (j := 1) C dL_law_3601 rfl rfl ?_
        refine v_iload (pc := 3602) (j := 5) C dL_law_3602 rfl ?_
        refine v_iconst (pc := 3604) (v := (2 : Int32)) C dL_law_3604 rfl ?_
        refine v_iadd (pc := 3605) C dL_law_3605 ?_
        obtain ⟨x77, ex77, hf⟩ := hf
        refine v_iaload (pc := 3606) C ex77 dL_law_3606 ?_
        obtain ⟨b78, eb78, hf⟩ := hf
        obtain ⟨rb78, _, kb78⟩ := aIs_eq eb78
        obtain ⟨x79, h80, ex79, hf⟩ := hf
        refine v_call (pc := 3607) (d_V (pc := 3607) C (As := [.int x76, .int x77]) (rest := []) rb78 kb78 nt_1 q2882 yi_X2_setLoad_FigureSurveyModel yk_X2_setLoad rfl (by decide) (by decide) (Nat.le_trans aw_0 (by decide)) rfl (mX2_setLoad C.st ex79) dL_law_3607) ?_
        refine v_istore (pc := 3610) (lv' := [(6, false, .int x79), (5, false, .int x73), (0, false, va_rf a0), (1, false, va_rf a1), (2, false, va_rf a2), (3, false, va_rf a3), (4, false, .int a4)]) C dL_law_3610 (by decide) rfl ?_
        refine v_aload_n (pc := 3612) (j := 4) C dL_law_3612 rfl rfl ?_
        obtain ⟨b81, eb81, hf⟩ := hf
        obtain ⟨rb81, _, kb81⟩ := aIs_eq eb81
        obtain ⟨x82, ex82, hf⟩ := hf
        refine v_call (pc := 3613) (d_V (pc := 3613) C (As := []) (rest := []) rb81 kb81 nt_1 q2487 yi_X2_thrown_FigureSurveyModel yk_X2_thrown rfl (by decide) (by decide) (Nat.le_trans aw_0 (by decide)) rfl (mX2_thrown C.st ex82) dL_law_3613) ?_
        refine v_iload (pc := 3616) (j := 1) C dL_law_3616 rfl ?_
        refine v_icmp_eq (pc := 3618) (tgt := 3623) C dL_law_3618 rfl (fun hc => ?_) (fun hc => ?_)
        · rw [if_pos hc] at hf
          refine v_iload (pc := 3623) (j := 1) C dL_law_3623 rfl ?_
          refine v_if_ne (pc := 3625) (tgt := 3640) C dL_law_3625 rfl (fun hc => ?_) (fun hc => ?_)
          · rw [if_neg hc] at hf
            refine v_goto (pc := 3640) (tgt := 3952) C dL_law_3640 rfl ?_
            exact V.sub [2, 3, 4, 5, 6] rfl (vL_p3952 L ih hf)
          · rw [if_pos (Decidable.of_not_not hc)] at hf
            refine v_aload_n (pc := 3628) (j := 5) C dL_law_3628 rfl rfl ?_
            refine v_iconst (pc := 3629) (v := (0 : Int32)) C dL_law_3629 rfl ?_
            obtain ⟨x84, ex84, hf⟩ := hf
            refine v_laload (pc := 3630) C ex84 dL_law_3630 ?_
            refine v_iload (pc := 3631) (j := 0) C dL_law_3631 rfl ?_
            refine v_i2l (pc := 3633) C dL_law_3633 ?_
            refine v_lcmp (pc := 3634) C dL_law_3634 ?_
            refine v_if_eq (pc := 3635) (tgt := 3640) C dL_law_3635 rfl (fun hc => ?_) (fun hc => ?_)
            · rw [if_pos hc] at hf
              refine v_goto (pc := 3640) (tgt := 3952) C dL_law_3640 rfl ?_
              exact V.sub [2, 3, 4, 5, 6] rfl (vL_p3952 L ih hf)
            · rw [if_neg hc] at hf
              refine v_iconst (pc := 3638) (v := (0 : Int32)) C dL_law_3638 rfl ?_
              exact hf.elim
        · rw [if_neg hc] at hf
          refine v_iconst (pc := 3621) (v := (0 : Int32)) C dL_law_3621 rfl ?_
          exact hf.elim
      rw [if_neg j48] at hf
      by_cases j49 : (x2 &&& (63 : Int32)) = (49 : Int32)
      · rw [if_pos j49] at hf
        rw [j49]
        refine v_tableIn (pc := 39) (off := 3604) (tgt := 3643) C dL_law_39 (by decide) (by decide) rfl rfl ?_
        refine v_aload_n (pc := 3643) (j := 1) C dL_law_3643 rfl rfl ?_
        refine v_aload_n (pc := 3644) (j := 0) C dL_law_3644 rfl rfl ?_
        refine v_iload (pc := 3645) (j := 4) C dL_law_3645 rfl ?_
        refine v_iconst (pc := 3647) (v := (1 : Int32)) C dL_law_3647 rfl ?_
        refine v_iadd (pc := 3648) C dL_law_3648 ?_
        obtain ⟨x57, ex57, hf⟩ := hf
        refine v_iaload (pc := 3649) C ex57 dL_law_3649 ?_
        refine v_aload_n (pc := 3650) (j := 0) C dL_law_3650 rfl rfl ?_
        refine v_iload (pc := 3651) (j := 4) C dL_law_3651 rfl ?_
        refine v_iconst (pc := 3653) (v := (2 : Int32)) C dL_law_3653 rfl ?_
        refine v_iadd (pc := 3654) C dL_law_3654 ?_
        obtain ⟨x58, ex58, hf⟩ := hf
        refine v_iaload (pc := 3655) C ex58 dL_law_3655 ?_
        refine v_aload_n (pc := 3656) (j := 3) C dL_law_3656 rfl rfl ?_
        obtain ⟨x59, h60, ex59, ox59, hf⟩ := hf
        refine v_wcall (pc := 3657) (As := [va_rf a1, .int x57, .int x58, va_rf a3]) (rest := []) C L.2.2.2.2.2.1 q2388 q2389 q2390 q73 ⟨by decide +kernel, by decide +kernel⟩ (n9 := 4) (by decide +kernel) rfl (by decide) (by decide) (Nat.le_trans aw_0 (by decide)) rfl (mX0_tour C.st ex59) dL_law_3657 ox59.1 (by have := L.2.1; have := ox59.2.1; omega) fun D1 h61 hs => ?_
        have L := L.step (by have := L.2.1; have := ox59.2.1; omega) hs (by have := L.2.1; have := ox59.2.2; have := L.2.2.2.2.2.2; omega)
        have hf := hf D1 h61 hs
        have C := L.1
        refine v_istore (pc := 3660) (lv' := [(5, false, .int x59), (0, false, va_rf a0), (1, false, va_rf a1), (2, false, va_rf a2), (3, false, va_rf a3), (4, false, .int a4)]) C dL_law_3660 (by decide) rfl ?_
        refine v_aload_n (pc := 3662) (j := 3) C dL_law_3662 rfl rfl ?_
        refine v_aload_n (pc := 3663) (j := 1) C dL_law_3663 rfl rfl ?_
        refine v_iload (pc := 3664) (j := 5) C dL_law_3664 rfl ?_
        refine v_iconst (pc := 3666) (v := (1 : Int32)) C dL_law_3666 rfl ?_
        refine v_iadd (pc := 3667) C dL_law_3667 ?_
        obtain ⟨x62, ex62, hf⟩ := hf
        refine v_iaload (pc := 3668) C ex62 dL_law_3668 ?_
        refine v_aload_n (pc := 3669) (j := 1) C dL_law_3669 rfl rfl ?_
        refine v_iload (pc := 3670) (j := 5) C dL_law_3670 rfl ?_
        refine v_iconst (pc := 3672) (v := (2 : Int32)) C dL_law_3672 rfl ?_
        refine v_iadd (pc := 3673) C dL_law_3673 ?_
        obtain ⟨x63, ex63, hf⟩ := hf
        refine v_iaload (pc := 3674) C ex63 dL_law_3674 ?_
        obtain ⟨b64, eb64, hf⟩ := hf
        obtain ⟨rb64, _, kb64⟩ := aIs_eq eb64
        obtain ⟨x65, h66, ex65, hf⟩ := hf
        refine v_call (pc := 3675) (d_V (pc := 3675) C (As := [.int x62, .int x63]) (rest := []) rb64 kb64 nt_1 q2886 yi_X2_tour_FigureSurveyModel yk_X2_tour rfl (by decide) (by decide) (Nat.le_trans aw_0 (by decide)) rfl (mX2_tour C.st ex65) dL_law_3675) ?_
        refine v_istore (pc := 3678) (lv' := [(6, false, .int x65), (5, false, .int x59), (0, false, va_rf a0), (1, false, va_rf a1), (2, false, va_rf a2), (3, false, va_rf a3), (4, false, .int a4)]) C dL_law_3678 (by decide) rfl ?_
        refine v_aload_n (pc := 3680) (j := 4) C dL_law_3680 rfl rfl ?_
        obtain ⟨b67, eb67, hf⟩ := hf
        obtain ⟨rb67, _, kb67⟩ := aIs_eq eb67
        obtain ⟨x68, ex68, hf⟩ := hf
        refine v_call (pc := 3681) (d_V (pc := 3681) C (As := []) (rest := []) rb67 kb67 nt_1 q2487 yi_X2_thrown_FigureSurveyModel yk_X2_thrown rfl (by decide) (by decide) (Nat.le_trans aw_0 (by decide)) rfl (mX2_thrown C.st ex68) dL_law_3681) ?_
        refine v_iload (pc := 3684) (j := 1) C dL_law_3684 rfl ?_
        refine v_icmp_eq (pc := 3686) (tgt := 3691) C dL_law_3686 rfl (fun hc => ?_) (fun hc => ?_)
        · rw [if_pos hc] at hf
          refine v_iload (pc := 3691) (j := 1) C dL_law_3691 rfl ?_
          refine v_if_ne (pc := 3693) (tgt := 3708) C dL_law_3693 rfl (fun hc => ?_) (fun hc => ?_)
          · rw [if_neg hc] at hf
            refine v_goto (pc := 3708) (tgt := 3952) C dL_law_3708 rfl ?_
            exact V.sub [2, 3, 4, 5, 6] rfl (vL_p3952 L ih hf)
          · rw [if_pos (Decidable.of_not_not hc)] at hf
            refine v_aload_n (pc := 3696) (j := 5) C dL_law_3696 rfl rfl ?_
            refine v_iconst (pc := 3697) (v := (0 : Int32)) C dL_law_3697 rfl ?_
            obtain ⟨x70, ex70, hf⟩ := hf
            refine v_laload (pc := 3698) C ex70 dL_law_3698 ?_
            refine v_iload (pc := 3699) (j := 0) C dL_law_3699 rfl ?_
            refine v_i2l (pc := 3701) C dL_law_3701 ?_
            refine v_lcmp (pc := 3702) C dL_law_3702 ?_
            refine v_if_eq (pc := 3703) (tgt := 3708) C dL_law_3703 rfl (fun hc => ?_) (fun hc => ?_)
            · rw [if_pos hc] at hf
              refine v_goto (pc := 3708) (tgt := 3952) C dL_law_3708 rfl ?_
              exact V.sub [2, 3, 4, 5, 6] rfl (vL_p3952 L ih hf)
            · rw [if_neg hc] at hf
              refine v_iconst (pc := 3706) (v := (0 : Int32)) C dL_law_3706 rfl ?_
              exact hf.elim
        · rw [if_neg hc] at hf
          refine v_iconst (pc := 3689) (v := (0 : Int32)) C dL_law_3689 rfl ?_
          exact hf.elim
      rw [if_neg j49] at hf
      by_cases j50 : (x2 &&& (63 : Int32)) = (50 : Int32)
      · rw [if_pos j50] at hf
        rw [j50]
        refine v_tableIn (pc := 39) (off := 3672) (tgt := 3711) C dL_law_39 (by decide) (by decide) rfl rfl ?_
        refine v_aload_n (pc := 3711) (j := 1) C dL_law_3711 rfl rfl ?_
        refine v_aload_n (pc := 3712) (j := 0) C dL_law_3712 rfl rfl ?_
        refine v_iload (pc := 3713) (j := 4) C dL_law_3713 rfl ?_
        refine v_iconst (pc := 3715) (v := (1 : Int32)) C dL_law_3715 rfl ?_
        refine v_iadd (pc := 3716) C dL_law_3716 ?_
        obtain ⟨x43, ex43, hf⟩ := hf
        refine v_iaload (pc := 3717) C ex43 dL_law_3717 ?_
        refine v_aload_n (pc := 3718) (j := 0) C dL_law_3718 rfl rfl ?_
        refine v_iload (pc := 3719) (j := 4) C dL_law_3719 rfl ?_
        refine v_iconst (pc := 3721) (v := (2 : Int32)) C dL_law_3721 rfl ?_
        refine v_iadd (pc := 3722) C dL_law_3722 ?_
        obtain ⟨x44, ex44, hf⟩ := hf
        refine v_iaload (pc := 3723) C ex44 dL_law_3723 ?_
        refine v_aload_n (pc := 3724) (j := 3) C dL_law_3724 rfl rfl ?_
        obtain ⟨x45, h46, ex45, ox45, hf⟩ := hf
        refine v_wcall (pc := 3725) (As := [va_rf a1, .int x43, .int x44, va_rf a3]) (rest := []) C L.2.2.2.2.2.1 q2395 q2396 q2397 q73 ⟨by decide +kernel, by decide +kernel⟩ (n9 := 4) (by decide +kernel) rfl (by decide) (by decide) (Nat.le_trans aw_0 (by decide)) rfl (mX0_tellDam C.st ex45) dL_law_3725 ox45.1 (by have := L.2.1; have := ox45.2.1; omega) fun D1 h47 hs => ?_
        have L := L.step (by have := L.2.1; have := ox45.2.1; omega) hs (by have := L.2.1; have := ox45.2.2; have := L.2.2.2.2.2.2; omega)
        have hf := hf D1 h47 hs
        have C := L.1
        refine v_istore (pc := 3728) (lv' := [(5, false, .int x45), (0, false, va_rf a0), (1, false, va_rf a1), (2, false, va_rf a2), (3, false, va_rf a3), (4, false, .int a4)]) C dL_law_3728 (by decide) rfl ?_
        refine v_aload_n (pc := 3730) (j := 3) C dL_law_3730 rfl rfl ?_
        refine v_aload_n (pc := 3731) (j := 1) C dL_law_3731 rfl rfl ?_
        refine v_iload (pc := 3732) (j := 5) C dL_law_3732 rfl ?_
        refine v_iconst (pc := 3734) (v := (1 : Int32)) C dL_law_3734 rfl ?_
        refine v_iadd (pc := 3735) C dL_law_3735 ?_
        obtain ⟨x48, ex48, hf⟩ := hf
        refine v_iaload (pc := 3736) C ex48 dL_law_3736 ?_
        refine v_aload_n (pc := 3737) (j := 1) C dL_law_3737 rfl rfl ?_
        refine v_iload (pc := 3738) (j := 5) C dL_law_3738 rfl ?_
        refine v_iconst (pc := 3740) (v := (2 : Int32)) C dL_law_3740 rfl ?_
        refine v_iadd (pc := 3741) C dL_law_3741 ?_
        obtain ⟨x49, ex49, hf⟩ := hf
        refine v_iaload (pc := 3742) C ex49 dL_law_3742 ?_
        obtain ⟨b50, eb50, hf⟩ := hf
        obtain ⟨rb50, _, kb50⟩ := aIs_eq eb50
        obtain ⟨x51, h52, ex51, hf⟩ := hf
        refine v_call (pc := 3743) (d_V (pc := 3743) C (As := [.int x48, .int x49]) (rest := []) rb50 kb50 nt_1 q2890 yi_X2_tellDam_FigureSurveyModel yk_X2_tellDam rfl (by decide) (by decide) (Nat.le_trans aw_0 (by decide)) rfl (mX2_tellDam C.st ex51) dL_law_3743) ?_
        refine v_istore (pc := 3746) (lv' := [(6, false, .int x51), (5, false, .int x45), (0, false, va_rf a0), (1, false, va_rf a1), (2, false, va_rf a2), (3, false, va_rf a3), (4, false, .int a4)]) C dL_law_3746 (by decide) rfl ?_
        refine v_aload_n (pc := 3748) (j := 4) C dL_law_3748 rfl rfl ?_
        obtain ⟨b53, eb53, hf⟩ := hf
        obtain ⟨rb53, _, kb53⟩ := aIs_eq eb53
        obtain ⟨x54, ex54, hf⟩ := hf
        refine v_call (pc := 3749) (d_V (pc := 3749) C (As := []) (rest := []) rb53 kb53 nt_1 q2487 yi_X2_thrown_FigureSurveyModel yk_X2_thrown rfl (by decide) (by decide) (Nat.le_trans aw_0 (by decide)) rfl (mX2_thrown C.st ex54) dL_law_3749) ?_
        refine v_iload (pc := 3752) (j := 1) C dL_law_3752 rfl ?_
        refine v_icmp_eq (pc := 3754) (tgt := 3759) C dL_law_3754 rfl (fun hc => ?_) (fun hc => ?_)
        · rw [if_pos hc] at hf
          refine v_iload (pc := 3759) (j := 1) C dL_law_3759 rfl ?_
          refine v_if_ne (pc := 3761) (tgt := 3776) C dL_law_3761 rfl (fun hc => ?_) (fun hc => ?_)
          · rw [if_neg hc] at hf
            refine v_goto (pc := 3776) (tgt := 3952) C dL_law_3776 rfl ?_
            exact V.sub [2, 3, 4, 5, 6] rfl (vL_p3952 L ih hf)
          · rw [if_pos (Decidable.of_not_not hc)] at hf
            refine v_aload_n (pc := 3764) (j := 5) C dL_law_3764 rfl rfl ?_
            refine v_iconst (pc := 3765) (v := (0 : Int32)) C dL_law_3765 rfl ?_
            obtain ⟨x56, ex56, hf⟩ := hf
            refine v_laload (pc := 3766) C ex56 dL_law_3766 ?_
            refine v_iload (pc := 3767) (j := 0) C dL_law_3767 rfl ?_
            refine v_i2l (pc := 3769) C dL_law_3769 ?_
            refine v_lcmp (pc := 3770) C dL_law_3770 ?_
            refine v_if_eq (pc := 3771) (tgt := 3776) C dL_law_3771 rfl (fun hc => ?_) (fun hc => ?_)
            · rw [if_pos hc] at hf
              refine v_goto (pc := 3776) (tgt := 3952) C dL_law_3776 rfl ?_
              exact V.sub [2, 3, 4, 5, 6] rfl (vL_p3952 L ih hf)
            · rw [if_neg hc] at hf
              refine v_iconst (pc := 3774) (v := (0 : Int32)) C dL_law_3774 rfl ?_
              exact hf.elim
        · rw [if_neg hc] at hf
          refine v_iconst (pc := 3757) (v := (0 : Int32)) C dL_law_3757 rfl ?_
          exact hf.elim
      rw [if_neg j50] at hf
      by_cases j51 : (x2 &&& (63 : Int32)) = (51 : Int32)
      · rw [if_pos j51] at hf
        rw [j51]
        refine v_tableIn (pc := 39) (off := 3740) (tgt := 3779) C dL_law_39 (by decide) (by decide) rfl rfl ?_
        refine v_aload_n (pc := 3779) (j := 1) C dL_law_3779 rfl rfl ?_
        refine v_aload_n (pc := 3780) (j := 0) C dL_law_3780 rfl rfl ?_
        refine v_iload (pc := 3781) (j := 4) C dL_law_3781 rfl ?_
        refine v_iconst (pc := 3783) (v := (1 : Int32)) C dL_law_3783 rfl ?_
        refine v_iadd (pc := 3784) C dL_law_3784 ?_
        obtain ⟨x31, ex31, hf⟩ := hf
        refine v_iaload (pc := 3785) C ex31 dL_law_3785 ?_
        refine v_aload_n (pc := 3786) (j := 3) C dL_law_3786 rfl rfl ?_
        obtain ⟨x32, h33, ex32, ox32, hf⟩ := hf
        refine v_wcall (pc := 3787) (As := [va_rf a1, .int x31, va_rf a3]) (rest := []) C L.2.2.2.2.2.1 q2405 q2406 q2407 q73 ⟨by decide +kernel, by decide +kernel⟩ (n9 := 3) (by decide +kernel) rfl (by decide) (by decide) (Nat.le_trans aw_0 (by decide)) rfl (mX0_isDrowned C.st ex32) dL_law_3787 ox32.1 (by have := L.2.1; have := ox32.2.1; omega) fun D1 h34 hs => ?_
        have L := L.step (by have := L.2.1; have := ox32.2.1; omega) hs (by have := L.2.1; have := ox32.2.2; have := L.2.2.2.2.2.2; omega)
        have hf := hf D1 h34 hs
        have C := L.1
        refine v_istore (pc := 3790) (lv' := [(5, false, .int x32), (0, false, va_rf a0), (1, false, va_rf a1), (2, false, va_rf a2), (3, false, va_rf a3), (4, false, .int a4)]) C dL_law_3790 (by decide) rfl ?_
        refine v_aload_n (pc := 3792) (j := 3) C dL_law_3792 rfl rfl ?_
        refine v_aload_n (pc := 3793) (j := 1) C dL_law_3793 rfl rfl ?_
        refine v_iload (pc := 3794) (j := 5) C dL_law_3794 rfl ?_
        refine v_iconst (pc := 3796) (v := (1 : Int32)) C dL_law_3796 rfl ?_
        refine v_iadd (pc := 3797) C dL_law_3797 ?_
        obtain ⟨x35, ex35, hf⟩ := hf
        refine v_iaload (pc := 3798) C ex35 dL_law_3798 ?_
        obtain ⟨b36, eb36, hf⟩ := hf
        obtain ⟨rb36, _, kb36⟩ := aIs_eq eb36
        obtain ⟨x37, h38, ex37, hf⟩ := hf
        refine v_call (pc := 3799) (d_V (pc := 3799) C (As := [.int x35]) (rest := []) rb36 kb36 nt_1 q2894 yi_X2_isDrowned_FigureSurveyModel yk_X2_isDrowned rfl (by decide) (by decide) (Nat.le_trans aw_0 (by decide)) rfl (mX2_isDrowned C.st ex37) dL_law_3799) ?_
        refine v_istore (pc := 3802) (lv' := [(6, false, .int x37), (5, false, .int x32), (0, false, va_rf a0), (1, false, va_rf a1), (2, false, va_rf a2), (3, false, va_rf a3), (4, false, .int a4)]) C dL_law_3802 (by decide) rfl ?_
        refine v_aload_n (pc := 3804) (j := 4) C dL_law_3804 rfl rfl ?_
        obtain ⟨b39, eb39, hf⟩ := hf
        obtain ⟨rb39, _, kb39⟩ := aIs_eq eb39
        obtain ⟨x40, ex40, hf⟩ := hf
        refine v_call (pc := 3805) (d_V (pc := 3805) C (As := []) (rest := []) rb39 kb39 nt_1 q2487 yi_X2_thrown_FigureSurveyModel yk_X2_thrown rfl (by decide) (by decide) (Nat.le_trans aw_0 (by decide)) rfl (mX2_thrown C.st ex40) dL_law_3805) ?_
        refine v_iload (pc := 3808) (j := 1) C dL_law_3808 rfl ?_
        refine v_icmp_eq (pc := 3810) (tgt := 3815) C dL_law_3810 rfl (fun hc => ?_) (fun hc => ?_)
        · rw [if_pos hc] at hf
          refine v_iload (pc := 3815) (j := 1) C dL_law_3815 rfl ?_
          refine v_if_ne (pc := 3817) (tgt := 3839) C dL_law_3817 rfl (fun hc => ?_) (fun hc => ?_)
          · rw [if_neg hc] at hf
            refine v_goto (pc := 3839) (tgt := 3952) C dL_law_3839 rfl ?_
            exact V.sub [2, 3, 4, 5, 6] rfl (vL_p3952 L ih hf)
          · rw [if_pos (Decidable.of_not_not hc)] at hf
            refine v_aload_n (pc := 3820) (j := 5) C dL_law_3820 rfl rfl ?_
            refine v_iconst (pc := 3821) (v := (0 : Int32)) C dL_law_3821 rfl ?_
            obtain ⟨x42, ex42, hf⟩ := hf
            refine v_laload (pc := 3822) C ex42 dL_law_3822 ?_
            refine v_iload (pc := 3823) (j := 0) C dL_law_3823 rfl ?_
            refine v_if_eq (pc := 3825) (tgt := 3832) C dL_law_3825 rfl (fun hc => ?_) (fun hc => ?_)
            · rw [if_pos hc] at hf
              refine v_lconst (pc := 3832) (v := (0 : Int64)) C dL_law_3832 rfl ?_
              exact V.sub [2, 3, 4, 5, 6] rfl (vL_p3833 L ih hf)
            · rw [if_neg hc] at hf
              refine v_lconst (pc := 3828) (v := (1 : Int64)) C dL_law_3828 rfl ?_
              refine v_goto (pc := 3829) (tgt := 3833) C dL_law_3829 rfl ?_
              exact V.sub [2, 3, 4, 5, 6] rfl (vL_p3833 L ih hf)
        · rw [if_neg hc] at hf
          refine v_iconst (pc := 3813) (v := (0 : Int32)) C dL_law_3813 rfl ?_
          exact hf.elim
      rw [if_neg j51] at hf
      by_cases j52 : (x2 &&& (63 : Int32)) = (52 : Int32)
      · rw [if_pos j52] at hf
        rw [j52]
        refine v_tableIn (pc := 39) (off := 3803) (tgt := 3842) C dL_law_39 (by decide) (by decide) rfl rfl ?_
        refine v_aload_n (pc := 3842) (j := 1) C dL_law_3842 rfl rfl ?_
        obtain ⟨b25, eb25, hf⟩ := hf
        obtain ⟨rb25, _, kb25⟩ := aIs_eq eb25
        obtain ⟨x26, h27, ex26, hf⟩ := hf
        refine v_call (pc := 3843) (d_V (pc := 3843) C (As := []) (rest := []) rb25 kb25 nt_0 q266 yi_X1_recordFirst_FigureSurvey yk_X1_recordFirst rfl (by decide) (by decide) (Nat.le_trans aw_0 (by decide)) rfl (mX1_recordFirst C.st ex26) dL_law_3843) ?_
        refine v_aload_n (pc := 3846) (j := 2) C dL_law_3846 rfl rfl ?_
        obtain ⟨b28, eb28, hf⟩ := hf
        obtain ⟨rb28, _, kb28⟩ := aIs_eq eb28
        obtain ⟨x29, h30, ex29, hf⟩ := hf
        refine v_call (pc := 3847) (d_V (pc := 3847) C (As := []) (rest := [.int x26]) rb28 kb28 nt_1 q2898 yi_X2_recordFirst_FigureSurveyModel yk_X2_recordFirst rfl (by decide) (by decide) (Nat.le_trans (aw_i aw_0) (by decide)) rfl (mX2_recordFirst C.st ex29) dL_law_3847) ?_
        refine v_icmp_eq (pc := 3850) (tgt := 3952) C dL_law_3850 rfl (fun hc => ?_) (fun hc => ?_)
        · rw [if_pos hc] at hf
          exact V.sub [0, 1, 2, 3, 4] rfl (vL_p3952 L ih hf)
        · rw [if_neg hc] at hf
          refine v_iconst (pc := 3853) (v := (0 : Int32)) C dL_law_3853 rfl ?_
          exact hf.elim
      rw [if_neg j52] at hf
      by_cases j53 : (x2 &&& (63 : Int32)) = (53 : Int32)
      · rw [if_pos j53] at hf
        rw [j53]
        refine v_tableIn (pc := 39) (off := 3816) (tgt := 3855) C dL_law_39 (by decide) (by decide) rfl rfl ?_
        refine v_aload_n (pc := 3855) (j := 1) C dL_law_3855 rfl rfl ?_
        obtain ⟨b19, eb19, hf⟩ := hf
        obtain ⟨rb19, _, kb19⟩ := aIs_eq eb19
        obtain ⟨x20, h21, ex20, hf⟩ := hf
        refine v_call (pc := 3856) (d_V (pc := 3856) C (As := []) (rest := []) rb19 kb19 nt_0 q855 yi_X1_errors_FigureSurvey yk_X1_errors rfl (by decide) (by decide) (Nat.le_trans aw_0 (by decide)) rfl (mX1_errors C.st ex20) dL_law_3856) ?_
        refine v_aload_n (pc := 3859) (j := 2) C dL_law_3859 rfl rfl ?_
        obtain ⟨b22, eb22, hf⟩ := hf
        obtain ⟨rb22, _, kb22⟩ := aIs_eq eb22
        obtain ⟨x23, h24, ex23, hf⟩ := hf
        refine v_call (pc := 3860) (d_V (pc := 3860) C (As := []) (rest := [.int x20]) rb22 kb22 nt_1 q2902 yi_X2_errors_FigureSurveyModel yk_X2_errors rfl (by decide) (by decide) (Nat.le_trans (aw_i aw_0) (by decide)) rfl (mX2_errors C.st ex23) dL_law_3860) ?_
        refine v_icmp_eq (pc := 3863) (tgt := 3952) C dL_law_3863 rfl (fun hc => ?_) (fun hc => ?_)
        · rw [if_pos hc] at hf
          exact V.sub [0, 1, 2, 3, 4] rfl (vL_p3952 L ih hf)
        · rw [if_neg hc] at hf
          refine v_iconst (pc := 3866) (v := (0 : Int32)) C dL_law_3866 rfl ?_
          exact hf.elim
      rw [if_neg j53] at hf
      by_cases j54 : (x2 &&& (63 : Int32)) = (54 : Int32)
      · rw [if_pos j54] at hf
        rw [j54]
        refine v_tableIn (pc := 39) (off := 3829) (tgt := 3868) C dL_law_39 (by decide) (by decide) rfl rfl ?_
        refine v_aload_n (pc := 3868) (j := 1) C dL_law_3868 rfl rfl ?_
        obtain ⟨b13, eb13, hf⟩ := hf
        obtain ⟨rb13, _, kb13⟩ := aIs_eq eb13
        obtain ⟨x14, h15, ex14, hf⟩ := hf
        refine v_call (pc := 3869) (d_V (pc := 3869) C (As := []) (rest := []) rb13 kb13 nt_0 q1345 yi_X1_meanSpan_FigureSurvey yk_X1_meanSpan rfl (by decide) (by decide) (Nat.le_trans aw_0 (by decide)) rfl (mX1_meanSpan C.st ex14) dL_law_3869) ?_
        refine v_dstore (pc := 3872) (lv' := [(5, true, .double x14), (0, false, va_rf a0), (1, false, va_rf a1), (2, false, va_rf a2), (3, false, va_rf a3), (4, false, .int a4)]) C dL_law_3872 (by decide) rfl ?_
        refine v_aload_n (pc := 3874) (j := 3) C dL_law_3874 rfl rfl ?_
        obtain ⟨b16, eb16, hf⟩ := hf
        obtain ⟨rb16, _, kb16⟩ := aIs_eq eb16
        obtain ⟨x17, h18, ex17, hf⟩ := hf
        refine v_call (pc := 3875) (d_V (pc := 3875) C (As := []) (rest := []) rb16 kb16 nt_1 q2912 yi_X2_meanSpan_FigureSurveyModel yk_X2_meanSpan rfl (by decide) (by decide) (Nat.le_trans aw_0 (by decide)) rfl (mX2_meanSpan C.st ex17) dL_law_3875) ?_
        refine v_dstore (pc := 3878) (lv' := [(7, true, .double x17), (5, true, .double x14), (0, false, va_rf a0), (1, false, va_rf a1), (2, false, va_rf a2), (3, false, va_rf a3), (4, false, .int a4)]) C dL_law_3878 (by decide) rfl ?_
        refine v_dload (pc := 3880) (j := 1) C dL_law_3880 rfl ?_
        refine v_dload (pc := 3882) (j := 0) C dL_law_3882 rfl ?_
        refine v_dcmp (pc := 3884) C dL_law_3884 ?_
        refine v_if_eq (pc := 3885) (tgt := 3906) C dL_law_3885 rfl (fun hc => ?_) (fun hc => ?_)
        · rw [if_pos hc] at hf
          refine v_goto (pc := 3906) (tgt := 3952) C dL_law_3906 rfl ?_
          exact V.sub [2, 3, 4, 5, 6] rfl (vL_p3952 L ih hf)
        · rw [if_neg hc] at hf
          refine v_dload (pc := 3888) (j := 1) C dL_law_3888 rfl ?_
          refine v_dload (pc := 3890) (j := 1) C dL_law_3890 rfl ?_
          refine v_dcmp (pc := 3892) C dL_law_3892 ?_
          refine v_if_eq (pc := 3893) (tgt := 3904) C dL_law_3893 rfl (fun hc => ?_) (fun hc => ?_)
          · rw [if_pos hc] at hf
            refine v_iconst (pc := 3904) (v := (0 : Int32)) C dL_law_3904 rfl ?_
            exact hf.elim
          · rw [if_neg hc] at hf
            refine v_dload (pc := 3896) (j := 0) C dL_law_3896 rfl ?_
            refine v_dload (pc := 3898) (j := 0) C dL_law_3898 rfl ?_
            refine v_dcmp (pc := 3900) C dL_law_3900 ?_
            refine v_if_ne (pc := 3901) (tgt := 3906) C dL_law_3901 rfl (fun hc => ?_) (fun hc => ?_)
            · rw [if_neg hc] at hf
              refine v_goto (pc := 3906) (tgt := 3952) C dL_law_3906 rfl ?_
              exact V.sub [2, 3, 4, 5, 6] rfl (vL_p3952 L ih hf)
            · rw [if_pos (Decidable.of_not_not hc)] at hf
              refine v_iconst (pc := 3904) (v := (0 : Int32)) C dL_law_3904 rfl ?_
              exact hf.elim
      rw [if_neg j54] at hf
      by_cases j55 : (x2 &&& (63 : Int32)) = (55 : Int32)
      · rw [if_pos j55] at hf
        rw [j55]
        refine v_tableIn (pc := 39) (off := 3870) (tgt := 3909) C dL_law_39 (by decide) (by decide) rfl rfl ?_
        refine v_aload_n (pc := 3909) (j := 1) C dL_law_3909 rfl rfl ?_
        obtain ⟨b3, eb3, hf⟩ := hf
        obtain ⟨rb3, _, kb3⟩ := aIs_eq eb3
        obtain ⟨x4, h5, ex4, hf⟩ := hf
        refine v_call (pc := 3910) (d_V (pc := 3910) C (As := []) (rest := []) rb3 kb3 nt_0 q1555 yi_X1_heldShare_FigureSurvey yk_X1_heldShare rfl (by decide) (by decide) (Nat.le_trans aw_0 (by decide)) rfl (mX1_heldShare C.st ex4) dL_law_3910) ?_
        obtain ⟨_, e6, hf⟩ := hf
        refine v_f2d (pc := 3913) C dL_law_3913 (ck64_eq e6) ?_
        obtain ⟨x7, ex7, hf⟩ := hf
        refine vst (Option.some.inj ex7) (fun z => .double z :: []) ?_
        refine v_dstore (pc := 3914) (lv' := [(5, true, .double x7), (0, false, va_rf a0), (1, false, va_rf a1), (2, false, va_rf a2), (3, false, va_rf a3), (4, false, .int a4)]) C dL_law_3914 (by decide) rfl ?_
        refine v_aload_n (pc := 3916) (j := 3) C dL_law_3916 rfl rfl ?_
        obtain ⟨b8, eb8, hf⟩ := hf
        obtain ⟨rb8, _, kb8⟩ := aIs_eq eb8
        obtain ⟨x9, h10, ex9, hf⟩ := hf
        refine v_call (pc := 3917) (d_V (pc := 3917) C (As := []) (rest := []) rb8 kb8 nt_1 q2916 yi_X2_heldShare_FigureSurveyModel yk_X2_heldShare rfl (by decide) (by decide) (Nat.le_trans aw_0 (by decide)) rfl (mX2_heldShare C.st ex9) dL_law_3917) ?_
        obtain ⟨_, e11, hf⟩ := hf
        refine v_f2d (pc := 3920) C dL_law_3920 (ck64_eq e11) ?_
        obtain ⟨x12, ex12, hf⟩ := hf
        refine vst (Option.some.inj ex12) (fun z => .double z :: []) ?_
        refine v_dstore (pc := 3921) (lv' := [(7, true, .double x12), (5, true, .double x7), (0, false, va_rf a0), (1, false, va_rf a1), (2, false, va_rf a2), (3, false, va_rf a3), (4, false, .int a4)]) C dL_law_3921 (by decide) rfl ?_
        refine v_dload (pc := 3923) (j := 1) C dL_law_3923 rfl ?_
        refine v_dload (pc := 3925) (j := 0) C dL_law_3925 rfl ?_
        refine v_dcmp (pc := 3927) C dL_law_3927 ?_
        refine v_if_eq (pc := 3928) (tgt := 3949) C dL_law_3928 rfl (fun hc => ?_) (fun hc => ?_)
        · rw [if_pos hc] at hf
          refine v_goto (pc := 3949) (tgt := 3952) C dL_law_3949 rfl ?_
          exact V.sub [2, 3, 4, 5, 6] rfl (vL_p3952 L ih hf)
        · rw [if_neg hc] at hf
          refine v_dload (pc := 3931) (j := 1) C dL_law_3931 rfl ?_
          refine v_dload (pc := 3933) (j := 1) C dL_law_3933 rfl ?_
          refine v_dcmp (pc := 3935) C dL_law_3935 ?_
          refine v_if_eq (pc := 3936) (tgt := 3947) C dL_law_3936 rfl (fun hc => ?_) (fun hc => ?_)
          · rw [if_pos hc] at hf
            refine v_iconst (pc := 3947) (v := (0 : Int32)) C dL_law_3947 rfl ?_
            exact hf.elim
          · rw [if_neg hc] at hf
            refine v_dload (pc := 3939) (j := 0) C dL_law_3939 rfl ?_
            refine v_dload (pc := 3941) (j := 0) C dL_law_3941 rfl ?_
            refine v_dcmp (pc := 3943) C dL_law_3943 ?_
            refine v_if_ne (pc := 3944) (tgt := 3949) C dL_law_3944 rfl (fun hc => ?_) (fun hc => ?_)
            · rw [if_neg hc] at hf
              refine v_goto (pc := 3949) (tgt := 3952) C dL_law_3949 rfl ?_
              exact V.sub [2, 3, 4, 5, 6] rfl (vL_p3952 L ih hf)
            · rw [if_pos (Decidable.of_not_not hc)] at hf
              refine v_iconst (pc := 3947) (v := (0 : Int32)) C dL_law_3947 rfl ?_
              exact hf.elim
      rw [if_neg j55] at hf
      exact hf.elim
def wL_law (D : aD) (h : aH) (a0 : Option Nat) : Prop :=
  wB (aMk D h (0, dfX1)) fun h1 =>
  wB (fX1_init D h1 (some h.1)) fun h4 =>
  wB (aMk D h4 (1, dfX2)) fun h5 =>
  wB (fX2_init D h5 (some h4.1)) fun h8 =>
  wB (aMkA D h8 101 (1 : Int32) (.long 0)) fun h9 =>
  wL_p23 FU D h9 a0 (some h.1) (some h4.1) (some h8.1) (0 : Int32)
theorem vL_law {D : aD} {n0 : Nat} {h : aH} {a0 : Option Nat} (L : lX p l s m meth c D n0 s0 27 3484) (hf : wL_law D h a0) : V p l e room_1 s m #[Value.ref b] below meth c D n0 s0 (lw_Z below #[Value.ref b] s) h 0 [(0, false, va_rf a0)] [] := by
  have C := L.1
  unfold wL_law at hf
  obtain ⟨h1, eh1, hf⟩ := hf
  refine v_new (pc := 0) (t := 0) (fs := dfX1) (T := TX1) (N := 17) C rfl in_X1 tyX1 tyX1_ok q132 q133 q74 dfX1_ok rfl eh1 dL_law_0 ?_
  refine v_dup (pc := 3) C dL_law_3 (va_rfc _) ?_
  obtain ⟨h4, ex3, hf⟩ := hf
  refine v_callU (pc := 4) (d_I (pc := 4) C (As := []) (rest := [va_rf (some h.1)]) rfl rfl rfl q134 q135 yk_X1_init rfl (by decide) (by decide) (Nat.le_trans (aw_r aw_0) (by decide)) rfl (mX1_init C.st ex3) dL_law_4) ?_
  refine v_astore_n (pc := 7) (lv' := [(1, false, va_rf (some h.1)), (0, false, va_rf a0)]) C dL_law_7 rfl (by decide) rfl ?_
  obtain ⟨h5, eh5, hf⟩ := hf
  refine v_new (pc := 8) (t := 1) (fs := dfX2) (T := TX2) (N := 20) C rfl in_X2 tyX2 tyX2_ok q2412 q2413 q80 dfX2_ok rfl eh5 dL_law_8 ?_
  refine v_dup (pc := 11) C dL_law_11 (va_rfc _) ?_
  obtain ⟨h8, ex7, hf⟩ := hf
  refine v_callU (pc := 12) (d_I (pc := 12) C (As := []) (rest := [va_rf (some h4.1)]) rfl rfl rfl q2414 q2415 yk_X2_init rfl (by decide) (by decide) (Nat.le_trans (aw_r aw_0) (by decide)) rfl (mX2_init C.st ex7) dL_law_12) ?_
  refine v_astore_n (pc := 15) (lv' := [(2, false, va_rf (some h4.1)), (1, false, va_rf (some h.1)), (0, false, va_rf a0)]) C dL_law_15 rfl (by decide) rfl ?_
  refine v_iconst (pc := 16) (v := (1 : Int32)) C dL_law_16 rfl ?_
  obtain ⟨h9, eh9, hf⟩ := hf
  refine v_newarray (pc := 17) (t := 101) (v := .long 0) C q2486 rfl rfl (by decide) (by decide) rfl eh9 dL_law_17 ?_
  refine v_astore_n (pc := 19) (lv' := [(3, false, va_rf (some h8.1)), (2, false, va_rf (some h4.1)), (1, false, va_rf (some h.1)), (0, false, va_rf a0)]) C dL_law_19 rfl (by decide) rfl ?_
  refine v_iconst (pc := 20) (v := (0 : Int32)) C dL_law_20 rfl ?_
  refine v_istore (pc := 21) (lv' := [(4, false, .int (0 : Int32)), (3, false, va_rf (some h8.1)), (2, false, va_rf (some h4.1)), (1, false, va_rf (some h.1)), (0, false, va_rf a0)]) C dL_law_21 (by decide) rfl ?_
  exact V.sub [4, 3, 2, 1, 0] rfl (vL_p23 FU _ _ L _ _ _ _ _ _ hf)
end SLAW
