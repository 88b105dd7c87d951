/-! FigureSurveyLaw -/
set_option maxRecDepth 100000
def RX0 : String := "FigureSurveyLaw"
abbrev cX0_addPanel : ByteArray := method_3_code
def yX0_addPanel : MethodName := ⟨RX0, "addPanel", "(LFigureSurvey;I[J)I"⟩
def dkwX0_addPanel_0 : List UInt8 := [44, 3, 42, 27, 182, 0, 7, 133, 80, 167, 0, 9, 78, 4, 172, 78, 5, 172, 3, 172]
abbrev dktX0_addPanel_0 : List UInt8 := dkwX0_addPanel_0 ++ []
theorem dksX0_addPanel_0 : cX0_addPanel.data.toList.drop 0 = dktX0_addPanel_0 := by decide +kernel
theorem dX0_addPanel_0 : decode cX0_addPanel 0 = .ok (.aload_n 2, 1) := dk_44 (dk_at dksX0_addPanel_0 0 rfl rfl)
theorem dX0_addPanel_1 : decode cX0_addPanel 1 = .ok (.iconst 0, 1) := dk_3 (dk_at dksX0_addPanel_0 1 rfl rfl)
theorem dX0_addPanel_2 : decode cX0_addPanel 2 = .ok (.aload_n 0, 1) := dk_42 (dk_at dksX0_addPanel_0 2 rfl rfl)
theorem dX0_addPanel_3 : decode cX0_addPanel 3 = .ok (.iload_n 1, 1) := dk_27 (dk_at dksX0_addPanel_0 3 rfl rfl)
theorem dX0_addPanel_4 : decode cX0_addPanel 4 = .ok (.invokevirtual 7, 3) := dk_182 0 7 (dk_at dksX0_addPanel_0 4 rfl rfl)
theorem dX0_addPanel_7 : decode cX0_addPanel 7 = .ok (.i2l, 1) := dk_133 (dk_at dksX0_addPanel_0 7 rfl rfl)
theorem dX0_addPanel_8 : decode cX0_addPanel 8 = .ok (.lastore, 1) := dk_80 (dk_at dksX0_addPanel_0 8 rfl rfl)
theorem dX0_addPanel_9 : decode cX0_addPanel 9 = .ok (.goto 9, 3) := dk_167 0 9 (dk_at dksX0_addPanel_0 9 rfl rfl)
theorem dX0_addPanel_12 : decode cX0_addPanel 12 = .ok (.astore_n 3, 1) := dk_78 (dk_at dksX0_addPanel_0 12 rfl rfl)
theorem dX0_addPanel_13 : decode cX0_addPanel 13 = .ok (.iconst 1, 1) := dk_4 (dk_at dksX0_addPanel_0 13 rfl rfl)
theorem dX0_addPanel_14 : decode cX0_addPanel 14 = .ok (.ireturn, 1) := dk_172 (dk_at dksX0_addPanel_0 14 rfl rfl)
theorem dX0_addPanel_15 : decode cX0_addPanel 15 = .ok (.astore_n 3, 1) := dk_78 (dk_at dksX0_addPanel_0 15 rfl rfl)
theorem dX0_addPanel_16 : decode cX0_addPanel 16 = .ok (.iconst 2, 1) := dk_5 (dk_at dksX0_addPanel_0 16 rfl rfl)
theorem dX0_addPanel_17 : decode cX0_addPanel 17 = .ok (.ireturn, 1) := dk_172 (dk_at dksX0_addPanel_0 17 rfl rfl)
theorem dX0_addPanel_18 : decode cX0_addPanel 18 = .ok (.iconst 0, 1) := dk_3 (dk_at dksX0_addPanel_0 18 rfl rfl)
theorem dX0_addPanel_19 : decode cX0_addPanel 19 = .ok (.ireturn, 1) := dk_172 (dk_at dksX0_addPanel_0 19 rfl rfl)
abbrev cX0_setDepth : ByteArray := method_4_code
def yX0_setDepth : MethodName := ⟨RX0, "setDepth", "(LFigureSurvey;III[J)I"⟩
def dkwX0_setDepth_1 : List UInt8 := [58, 5, 6, 172, 3, 172]
abbrev dktX0_setDepth_1 : List UInt8 := dkwX0_setDepth_1 ++ []
def dkwX0_setDepth_0 : List UInt8 := [25, 4, 3, 42, 27, 28, 29, 182, 0, 17, 133, 80, 167, 0, 15, 58, 5, 4, 172, 58, 5, 5, 172]
abbrev dktX0_setDepth_0 : List UInt8 := dkwX0_setDepth_0 ++ dktX0_setDepth_1
theorem dksX0_setDepth_0 : cX0_setDepth.data.toList.drop 0 = dktX0_setDepth_0 := by decide +kernel
theorem dksX0_setDepth_1 : cX0_setDepth.data.toList.drop 23 = dktX0_setDepth_1 := dk_seg dksX0_setDepth_0 23 rfl rfl
theorem dX0_setDepth_0 : decode cX0_setDepth 0 = .ok (.aload 4, 2) := dk_25 4 (dk_at dksX0_setDepth_0 0 rfl rfl)
theorem dX0_setDepth_2 : decode cX0_setDepth 2 = .ok (.iconst 0, 1) := dk_3 (dk_at dksX0_setDepth_0 2 rfl rfl)
theorem dX0_setDepth_3 : decode cX0_setDepth 3 = .ok (.aload_n 0, 1) := dk_42 (dk_at dksX0_setDepth_0 3 rfl rfl)
theorem dX0_setDepth_4 : decode cX0_setDepth 4 = .ok (.iload_n 1, 1) := dk_27 (dk_at dksX0_setDepth_0 4 rfl rfl)
theorem dX0_setDepth_5 : decode cX0_setDepth 5 = .ok (.iload_n 2, 1) := dk_28 (dk_at dksX0_setDepth_0 5 rfl rfl)
theorem dX0_setDepth_6 : decode cX0_setDepth 6 = .ok (.iload_n 3, 1) := dk_29 (dk_at dksX0_setDepth_0 6 rfl rfl)
theorem dX0_setDepth_7 : decode cX0_setDepth 7 = .ok (.invokevirtual 17, 3) := dk_182 0 17 (dk_at dksX0_setDepth_0 7 rfl rfl)
theorem dX0_setDepth_10 : decode cX0_setDepth 10 = .ok (.i2l, 1) := dk_133 (dk_at dksX0_setDepth_0 10 rfl rfl)
theorem dX0_setDepth_11 : decode cX0_setDepth 11 = .ok (.lastore, 1) := dk_80 (dk_at dksX0_setDepth_0 11 rfl rfl)
theorem dX0_setDepth_12 : decode cX0_setDepth 12 = .ok (.goto 15, 3) := dk_167 0 15 (dk_at dksX0_setDepth_0 12 rfl rfl)
theorem dX0_setDepth_15 : decode cX0_setDepth 15 = .ok (.astore 5, 2) := dk_58 5 (dk_at dksX0_setDepth_0 15 rfl rfl)
theorem dX0_setDepth_17 : decode cX0_setDepth 17 = .ok (.iconst 1, 1) := dk_4 (dk_at dksX0_setDepth_0 17 rfl rfl)
theorem dX0_setDepth_18 : decode cX0_setDepth 18 = .ok (.ireturn, 1) := dk_172 (dk_at dksX0_setDepth_0 18 rfl rfl)
theorem dX0_setDepth_19 : decode cX0_setDepth 19 = .ok (.astore 5, 2) := dk_58 5 (dk_at dksX0_setDepth_0 19 rfl rfl)
theorem dX0_setDepth_21 : decode cX0_setDepth 21 = .ok (.iconst 2, 1) := dk_5 (dk_at dksX0_setDepth_0 21 rfl rfl)
theorem dX0_setDepth_22 : decode cX0_setDepth 22 = .ok (.ireturn, 1) := dk_172 (dk_at dksX0_setDepth_0 22 rfl rfl)
theorem dX0_setDepth_23 : decode cX0_setDepth 23 = .ok (.astore 5, 2) := dk_58 5 (dk_at dksX0_setDepth_1 0 rfl rfl)
theorem dX0_setDepth_25 : decode cX0_setDepth 25 = .ok (.iconst 3, 1) := dk_6 (dk_at dksX0_setDepth_1 2 rfl rfl)
theorem dX0_setDepth_26 : decode cX0_setDepth 26 = .ok (.ireturn, 1) := dk_172 (dk_at dksX0_setDepth_1 3 rfl rfl)
theorem dX0_setDepth_27 : decode cX0_setDepth 27 = .ok (.iconst 0, 1) := dk_3 (dk_at dksX0_setDepth_1 4 rfl rfl)
theorem dX0_setDepth_28 : decode cX0_setDepth 28 = .ok (.ireturn, 1) := dk_172 (dk_at dksX0_setDepth_1 5 rfl rfl)
abbrev cX0_light : ByteArray := method_5_code
def yX0_light : MethodName := ⟨RX0, "light", "(LFigureSurvey;II[J)I"⟩
def dkwX0_light_1 : List UInt8 := [172, 3, 172]
abbrev dktX0_light_1 : List UInt8 := dkwX0_light_1 ++ []
def dkwX0_light_0 : List UInt8 := [45, 3, 42, 27, 28, 182, 0, 23, 133, 80, 167, 0, 15, 58, 4, 4, 172, 58, 4, 5, 172, 58, 4, 6]
abbrev dktX0_light_0 : List UInt8 := dkwX0_light_0 ++ dktX0_light_1
theorem dksX0_light_0 : cX0_light.data.toList.drop 0 = dktX0_light_0 := by decide +kernel
theorem dksX0_light_1 : cX0_light.data.toList.drop 24 = dktX0_light_1 := dk_seg dksX0_light_0 24 rfl rfl
theorem dX0_light_0 : decode cX0_light 0 = .ok (.aload_n 3, 1) := dk_45 (dk_at dksX0_light_0 0 rfl rfl)
theorem dX0_light_1 : decode cX0_light 1 = .ok (.iconst 0, 1) := dk_3 (dk_at dksX0_light_0 1 rfl rfl)
theorem dX0_light_2 : decode cX0_light 2 = .ok (.aload_n 0, 1) := dk_42 (dk_at dksX0_light_0 2 rfl rfl)
theorem dX0_light_3 : decode cX0_light 3 = .ok (.iload_n 1, 1) := dk_27 (dk_at dksX0_light_0 3 rfl rfl)
theorem dX0_light_4 : decode cX0_light 4 = .ok (.iload_n 2, 1) := dk_28 (dk_at dksX0_light_0 4 rfl rfl)
theorem dX0_light_5 : decode cX0_light 5 = .ok (.invokevirtual 23, 3) := dk_182 0 23 (dk_at dksX0_light_0 5 rfl rfl)
theorem dX0_light_8 : decode cX0_light 8 = .ok (.i2l, 1) := dk_133 (dk_at dksX0_light_0 8 rfl rfl)
theorem dX0_light_9 : decode cX0_light 9 = .ok (.lastore, 1) := dk_80 (dk_at dksX0_light_0 9 rfl rfl)
theorem dX0_light_10 : decode cX0_light 10 = .ok (.goto 15, 3) := dk_167 0 15 (dk_at dksX0_light_0 10 rfl rfl)
theorem dX0_light_13 : decode cX0_light 13 = .ok (.astore 4, 2) := dk_58 4 (dk_at dksX0_light_0 13 rfl rfl)
theorem dX0_light_15 : decode cX0_light 15 = .ok (.iconst 1, 1) := dk_4 (dk_at dksX0_light_0 15 rfl rfl)
theorem dX0_light_16 : decode cX0_light 16 = .ok (.ireturn, 1) := dk_172 (dk_at dksX0_light_0 16 rfl rfl)
theorem dX0_light_17 : decode cX0_light 17 = .ok (.astore 4, 2) := dk_58 4 (dk_at dksX0_light_0 17 rfl rfl)
theorem dX0_light_19 : decode cX0_light 19 = .ok (.iconst 2, 1) := dk_5 (dk_at dksX0_light_0 19 rfl rfl)
theorem dX0_light_20 : decode cX0_light 20 = .ok (.ireturn, 1) := dk_172 (dk_at dksX0_light_0 20 rfl rfl)
theorem dX0_light_21 : decode cX0_light 21 = .ok (.astore 4, 2) := dk_58 4 (dk_at dksX0_light_0 21 rfl rfl)
theorem dX0_light_23 : decode cX0_light 23 = .ok (.iconst 3, 1) := dk_6 (dk_at dksX0_light_0 23 rfl rfl)
theorem dX0_light_24 : decode cX0_light 24 = .ok (.ireturn, 1) := dk_172 (dk_at dksX0_light_1 0 rfl rfl)
theorem dX0_light_25 : decode cX0_light 25 = .ok (.iconst 0, 1) := dk_3 (dk_at dksX0_light_1 1 rfl rfl)
theorem dX0_light_26 : decode cX0_light 26 = .ok (.ireturn, 1) := dk_172 (dk_at dksX0_light_1 2 rfl rfl)
abbrev cX0_seen : ByteArray := method_6_code
def yX0_seen : MethodName := ⟨RX0, "seen", "(LFigureSurvey;II[J)I"⟩
def dkwX0_seen_0 : List UInt8 := [45, 3, 42, 27, 28, 182, 0, 27, 133, 80, 167, 0, 11, 58, 4, 4, 172, 58, 4, 5, 172, 3, 172]
abbrev dktX0_seen_0 : List UInt8 := dkwX0_seen_0 ++ []
theorem dksX0_seen_0 : cX0_seen.data.toList.drop 0 = dktX0_seen_0 := by decide +kernel
theorem dX0_seen_0 : decode cX0_seen 0 = .ok (.aload_n 3, 1) := dk_45 (dk_at dksX0_seen_0 0 rfl rfl)
theorem dX0_seen_1 : decode cX0_seen 1 = .ok (.iconst 0, 1) := dk_3 (dk_at dksX0_seen_0 1 rfl rfl)
theorem dX0_seen_2 : decode cX0_seen 2 = .ok (.aload_n 0, 1) := dk_42 (dk_at dksX0_seen_0 2 rfl rfl)
theorem dX0_seen_3 : decode cX0_seen 3 = .ok (.iload_n 1, 1) := dk_27 (dk_at dksX0_seen_0 3 rfl rfl)
theorem dX0_seen_4 : decode cX0_seen 4 = .ok (.iload_n 2, 1) := dk_28 (dk_at dksX0_seen_0 4 rfl rfl)
theorem dX0_seen_5 : decode cX0_seen 5 = .ok (.invokevirtual 27, 3) := dk_182 0 27 (dk_at dksX0_seen_0 5 rfl rfl)
theorem dX0_seen_8 : decode cX0_seen 8 = .ok (.i2l, 1) := dk_133 (dk_at dksX0_seen_0 8 rfl rfl)
theorem dX0_seen_9 : decode cX0_seen 9 = .ok (.lastore, 1) := dk_80 (dk_at dksX0_seen_0 9 rfl rfl)
theorem dX0_seen_10 : decode cX0_seen 10 = .ok (.goto 11, 3) := dk_167 0 11 (dk_at dksX0_seen_0 10 rfl rfl)
theorem dX0_seen_13 : decode cX0_seen 13 = .ok (.astore 4, 2) := dk_58 4 (dk_at dksX0_seen_0 13 rfl rfl)
theorem dX0_seen_15 : decode cX0_seen 15 = .ok (.iconst 1, 1) := dk_4 (dk_at dksX0_seen_0 15 rfl rfl)
theorem dX0_seen_16 : decode cX0_seen 16 = .ok (.ireturn, 1) := dk_172 (dk_at dksX0_seen_0 16 rfl rfl)
theorem dX0_seen_17 : decode cX0_seen 17 = .ok (.astore 4, 2) := dk_58 4 (dk_at dksX0_seen_0 17 rfl rfl)
theorem dX0_seen_19 : decode cX0_seen 19 = .ok (.iconst 2, 1) := dk_5 (dk_at dksX0_seen_0 19 rfl rfl)
theorem dX0_seen_20 : decode cX0_seen 20 = .ok (.ireturn, 1) := dk_172 (dk_at dksX0_seen_0 20 rfl rfl)
theorem dX0_seen_21 : decode cX0_seen 21 = .ok (.iconst 0, 1) := dk_3 (dk_at dksX0_seen_0 21 rfl rfl)
theorem dX0_seen_22 : decode cX0_seen 22 = .ok (.ireturn, 1) := dk_172 (dk_at dksX0_seen_0 22 rfl rfl)
abbrev cX0_edges : ByteArray := method_7_code
def yX0_edges : MethodName := ⟨RX0, "edges", "(LFigureSurvey;II[J)I"⟩
def dkwX0_edges_0 : List UInt8 := [45, 3, 42, 27, 28, 182, 0, 30, 80, 167, 0, 11, 58, 4, 4, 172, 58, 4, 5, 172, 3, 172]
abbrev dktX0_edges_0 : List UInt8 := dkwX0_edges_0 ++ []
theorem dksX0_edges_0 : cX0_edges.data.toList.drop 0 = dktX0_edges_0 := by decide +kernel
theorem dX0_edges_0 : decode cX0_edges 0 = .ok (.aload_n 3, 1) := dk_45 (dk_at dksX0_edges_0 0 rfl rfl)
theorem dX0_edges_1 : decode cX0_edges 1 = .ok (.iconst 0, 1) := dk_3 (dk_at dksX0_edges_0 1 rfl rfl)
theorem dX0_edges_2 : decode cX0_edges 2 = .ok (.aload_n 0, 1) := dk_42 (dk_at dksX0_edges_0 2 rfl rfl)
theorem dX0_edges_3 : decode cX0_edges 3 = .ok (.iload_n 1, 1) := dk_27 (dk_at dksX0_edges_0 3 rfl rfl)
theorem dX0_edges_4 : decode cX0_edges 4 = .ok (.iload_n 2, 1) := dk_28 (dk_at dksX0_edges_0 4 rfl rfl)
theorem dX0_edges_5 : decode cX0_edges 5 = .ok (.invokevirtual 30, 3) := dk_182 0 30 (dk_at dksX0_edges_0 5 rfl rfl)
theorem dX0_edges_8 : decode cX0_edges 8 = .ok (.lastore, 1) := dk_80 (dk_at dksX0_edges_0 8 rfl rfl)
theorem dX0_edges_9 : decode cX0_edges 9 = .ok (.goto 11, 3) := dk_167 0 11 (dk_at dksX0_edges_0 9 rfl rfl)
theorem dX0_edges_12 : decode cX0_edges 12 = .ok (.astore 4, 2) := dk_58 4 (dk_at dksX0_edges_0 12 rfl rfl)
theorem dX0_edges_14 : decode cX0_edges 14 = .ok (.iconst 1, 1) := dk_4 (dk_at dksX0_edges_0 14 rfl rfl)
theorem dX0_edges_15 : decode cX0_edges 15 = .ok (.ireturn, 1) := dk_172 (dk_at dksX0_edges_0 15 rfl rfl)
theorem dX0_edges_16 : decode cX0_edges 16 = .ok (.astore 4, 2) := dk_58 4 (dk_at dksX0_edges_0 16 rfl rfl)
theorem dX0_edges_18 : decode cX0_edges 18 = .ok (.iconst 2, 1) := dk_5 (dk_at dksX0_edges_0 18 rfl rfl)
theorem dX0_edges_19 : decode cX0_edges 19 = .ok (.ireturn, 1) := dk_172 (dk_at dksX0_edges_0 19 rfl rfl)
theorem dX0_edges_20 : decode cX0_edges 20 = .ok (.iconst 0, 1) := dk_3 (dk_at dksX0_edges_0 20 rfl rfl)
theorem dX0_edges_21 : decode cX0_edges 21 = .ok (.ireturn, 1) := dk_172 (dk_at dksX0_edges_0 21 rfl rfl)
abbrev cX0_addStroke : ByteArray := method_8_code
def yX0_addStroke : MethodName := ⟨RX0, "addStroke", "(LFigureSurvey;IJ[J)I"⟩
def dkwX0_addStroke_1 : List UInt8 := [6, 172, 3, 172]
abbrev dktX0_addStroke_1 : List UInt8 := dkwX0_addStroke_1 ++ []
def dkwX0_addStroke_0 : List UInt8 := [25, 4, 3, 42, 27, 32, 182, 0, 34, 133, 80, 167, 0, 15, 58, 5, 4, 172, 58, 5, 5, 172, 58, 5]
abbrev dktX0_addStroke_0 : List UInt8 := dkwX0_addStroke_0 ++ dktX0_addStroke_1
theorem dksX0_addStroke_0 : cX0_addStroke.data.toList.drop 0 = dktX0_addStroke_0 := by decide +kernel
theorem dksX0_addStroke_1 : cX0_addStroke.data.toList.drop 24 = dktX0_addStroke_1 := dk_seg dksX0_addStroke_0 24 rfl rfl
theorem dX0_addStroke_0 : decode cX0_addStroke 0 = .ok (.aload 4, 2) := dk_25 4 (dk_at dksX0_addStroke_0 0 rfl rfl)
theorem dX0_addStroke_2 : decode cX0_addStroke 2 = .ok (.iconst 0, 1) := dk_3 (dk_at dksX0_addStroke_0 2 rfl rfl)
theorem dX0_addStroke_3 : decode cX0_addStroke 3 = .ok (.aload_n 0, 1) := dk_42 (dk_at dksX0_addStroke_0 3 rfl rfl)
theorem dX0_addStroke_4 : decode cX0_addStroke 4 = .ok (.iload_n 1, 1) := dk_27 (dk_at dksX0_addStroke_0 4 rfl rfl)
theorem dX0_addStroke_5 : decode cX0_addStroke 5 = .ok (.lload_n 2, 1) := dk_32 (dk_at dksX0_addStroke_0 5 rfl rfl)
theorem dX0_addStroke_6 : decode cX0_addStroke 6 = .ok (.invokevirtual 34, 3) := dk_182 0 34 (dk_at dksX0_addStroke_0 6 rfl rfl)
theorem dX0_addStroke_9 : decode cX0_addStroke 9 = .ok (.i2l, 1) := dk_133 (dk_at dksX0_addStroke_0 9 rfl rfl)
theorem dX0_addStroke_10 : decode cX0_addStroke 10 = .ok (.lastore, 1) := dk_80 (dk_at dksX0_addStroke_0 10 rfl rfl)
theorem dX0_addStroke_11 : decode cX0_addStroke 11 = .ok (.goto 15, 3) := dk_167 0 15 (dk_at dksX0_addStroke_0 11 rfl rfl)
theorem dX0_addStroke_14 : decode cX0_addStroke 14 = .ok (.astore 5, 2) := dk_58 5 (dk_at dksX0_addStroke_0 14 rfl rfl)
theorem dX0_addStroke_16 : decode cX0_addStroke 16 = .ok (.iconst 1, 1) := dk_4 (dk_at dksX0_addStroke_0 16 rfl rfl)
theorem dX0_addStroke_17 : decode cX0_addStroke 17 = .ok (.ireturn, 1) := dk_172 (dk_at dksX0_addStroke_0 17 rfl rfl)
theorem dX0_addStroke_18 : decode cX0_addStroke 18 = .ok (.astore 5, 2) := dk_58 5 (dk_at dksX0_addStroke_0 18 rfl rfl)
theorem dX0_addStroke_20 : decode cX0_addStroke 20 = .ok (.iconst 2, 1) := dk_5 (dk_at dksX0_addStroke_0 20 rfl rfl)
theorem dX0_addStroke_21 : decode cX0_addStroke 21 = .ok (.ireturn, 1) := dk_172 (dk_at dksX0_addStroke_0 21 rfl rfl)
theorem dX0_addStroke_22 : decode cX0_addStroke 22 = .ok (.astore 5, 2) := dk_58 5 (dk_at dksX0_addStroke_0 22 rfl rfl)
theorem dX0_addStroke_24 : decode cX0_addStroke 24 = .ok (.iconst 3, 1) := dk_6 (dk_at dksX0_addStroke_1 0 rfl rfl)
theorem dX0_addStroke_25 : decode cX0_addStroke 25 = .ok (.ireturn, 1) := dk_172 (dk_at dksX0_addStroke_1 1 rfl rfl)
theorem dX0_addStroke_26 : decode cX0_addStroke 26 = .ok (.iconst 0, 1) := dk_3 (dk_at dksX0_addStroke_1 2 rfl rfl)
theorem dX0_addStroke_27 : decode cX0_addStroke 27 = .ok (.ireturn, 1) := dk_172 (dk_at dksX0_addStroke_1 3 rfl rfl)
abbrev cX0_addFigure : ByteArray := method_9_code
def yX0_addFigure : MethodName := ⟨RX0, "addFigure", "(LFigureSurvey;I[J)I"⟩
def dkwX0_addFigure_0 : List UInt8 := [44, 3, 42, 27, 182, 0, 38, 133, 80, 167, 0, 9, 78, 4, 172, 78, 5, 172, 3, 172]
abbrev dktX0_addFigure_0 : List UInt8 := dkwX0_addFigure_0 ++ []
theorem dksX0_addFigure_0 : cX0_addFigure.data.toList.drop 0 = dktX0_addFigure_0 := by decide +kernel
theorem dX0_addFigure_0 : decode cX0_addFigure 0 = .ok (.aload_n 2, 1) := dk_44 (dk_at dksX0_addFigure_0 0 rfl rfl)
theorem dX0_addFigure_1 : decode cX0_addFigure 1 = .ok (.iconst 0, 1) := dk_3 (dk_at dksX0_addFigure_0 1 rfl rfl)
theorem dX0_addFigure_2 : decode cX0_addFigure 2 = .ok (.aload_n 0, 1) := dk_42 (dk_at dksX0_addFigure_0 2 rfl rfl)
theorem dX0_addFigure_3 : decode cX0_addFigure 3 = .ok (.iload_n 1, 1) := dk_27 (dk_at dksX0_addFigure_0 3 rfl rfl)
theorem dX0_addFigure_4 : decode cX0_addFigure 4 = .ok (.invokevirtual 38, 3) := dk_182 0 38 (dk_at dksX0_addFigure_0 4 rfl rfl)
theorem dX0_addFigure_7 : decode cX0_addFigure 7 = .ok (.i2l, 1) := dk_133 (dk_at dksX0_addFigure_0 7 rfl rfl)
theorem dX0_addFigure_8 : decode cX0_addFigure 8 = .ok (.lastore, 1) := dk_80 (dk_at dksX0_addFigure_0 8 rfl rfl)
theorem dX0_addFigure_9 : decode cX0_addFigure 9 = .ok (.goto 9, 3) := dk_167 0 9 (dk_at dksX0_addFigure_0 9 rfl rfl)
theorem dX0_addFigure_12 : decode cX0_addFigure 12 = .ok (.astore_n 3, 1) := dk_78 (dk_at dksX0_addFigure_0 12 rfl rfl)
theorem dX0_addFigure_13 : decode cX0_addFigure 13 = .ok (.iconst 1, 1) := dk_4 (dk_at dksX0_addFigure_0 13 rfl rfl)
theorem dX0_addFigure_14 : decode cX0_addFigure 14 = .ok (.ireturn, 1) := dk_172 (dk_at dksX0_addFigure_0 14 rfl rfl)
theorem dX0_addFigure_15 : decode cX0_addFigure 15 = .ok (.astore_n 3, 1) := dk_78 (dk_at dksX0_addFigure_0 15 rfl rfl)
theorem dX0_addFigure_16 : decode cX0_addFigure 16 = .ok (.iconst 2, 1) := dk_5 (dk_at dksX0_addFigure_0 16 rfl rfl)
theorem dX0_addFigure_17 : decode cX0_addFigure 17 = .ok (.ireturn, 1) := dk_172 (dk_at dksX0_addFigure_0 17 rfl rfl)
theorem dX0_addFigure_18 : decode cX0_addFigure 18 = .ok (.iconst 0, 1) := dk_3 (dk_at dksX0_addFigure_0 18 rfl rfl)
theorem dX0_addFigure_19 : decode cX0_addFigure 19 = .ok (.ireturn, 1) := dk_172 (dk_at dksX0_addFigure_0 19 rfl rfl)
abbrev cX0_setStroke : ByteArray := method_10_code
def yX0_setStroke : MethodName := ⟨RX0, "setStroke", "(LFigureSurvey;IIZ[J)I"⟩
def dkwX0_setStroke_1 : List UInt8 := [58, 5, 6, 172, 3, 172]
abbrev dktX0_setStroke_1 : List UInt8 := dkwX0_setStroke_1 ++ []
def dkwX0_setStroke_0 : List UInt8 := [25, 4, 3, 42, 27, 28, 29, 182, 0, 41, 133, 80, 167, 0, 15, 58, 5, 4, 172, 58, 5, 5, 172]
abbrev dktX0_setStroke_0 : List UInt8 := dkwX0_setStroke_0 ++ dktX0_setStroke_1
theorem dksX0_setStroke_0 : cX0_setStroke.data.toList.drop 0 = dktX0_setStroke_0 := by decide +kernel
theorem dksX0_setStroke_1 : cX0_setStroke.data.toList.drop 23 = dktX0_setStroke_1 := dk_seg dksX0_setStroke_0 23 rfl rfl
theorem dX0_setStroke_0 : decode cX0_setStroke 0 = .ok (.aload 4, 2) := dk_25 4 (dk_at dksX0_setStroke_0 0 rfl rfl)
theorem dX0_setStroke_2 : decode cX0_setStroke 2 = .ok (.iconst 0, 1) := dk_3 (dk_at dksX0_setStroke_0 2 rfl rfl)
theorem dX0_setStroke_3 : decode cX0_setStroke 3 = .ok (.aload_n 0, 1) := dk_42 (dk_at dksX0_setStroke_0 3 rfl rfl)
theorem dX0_setStroke_4 : decode cX0_setStroke 4 = .ok (.iload_n 1, 1) := dk_27 (dk_at dksX0_setStroke_0 4 rfl rfl)
theorem dX0_setStroke_5 : decode cX0_setStroke 5 = .ok (.iload_n 2, 1) := dk_28 (dk_at dksX0_setStroke_0 5 rfl rfl)
theorem dX0_setStroke_6 : decode cX0_setStroke 6 = .ok (.iload_n 3, 1) := dk_29 (dk_at dksX0_setStroke_0 6 rfl rfl)
theorem dX0_setStroke_7 : decode cX0_setStroke 7 = .ok (.invokevirtual 41, 3) := dk_182 0 41 (dk_at dksX0_setStroke_0 7 rfl rfl)
theorem dX0_setStroke_10 : decode cX0_setStroke 10 = .ok (.i2l, 1) := dk_133 (dk_at dksX0_setStroke_0 10 rfl rfl)
theorem dX0_setStroke_11 : decode cX0_setStroke 11 = .ok (.lastore, 1) := dk_80 (dk_at dksX0_setStroke_0 11 rfl rfl)
theorem dX0_setStroke_12 : decode cX0_setStroke 12 = .ok (.goto 15, 3) := dk_167 0 15 (dk_at dksX0_setStroke_0 12 rfl rfl)
theorem dX0_setStroke_15 : decode cX0_setStroke 15 = .ok (.astore 5, 2) := dk_58 5 (dk_at dksX0_setStroke_0 15 rfl rfl)
theorem dX0_setStroke_17 : decode cX0_setStroke 17 = .ok (.iconst 1, 1) := dk_4 (dk_at dksX0_setStroke_0 17 rfl rfl)
theorem dX0_setStroke_18 : decode cX0_setStroke 18 = .ok (.ireturn, 1) := dk_172 (dk_at dksX0_setStroke_0 18 rfl rfl)
theorem dX0_setStroke_19 : decode cX0_setStroke 19 = .ok (.astore 5, 2) := dk_58 5 (dk_at dksX0_setStroke_0 19 rfl rfl)
theorem dX0_setStroke_21 : decode cX0_setStroke 21 = .ok (.iconst 2, 1) := dk_5 (dk_at dksX0_setStroke_0 21 rfl rfl)
theorem dX0_setStroke_22 : decode cX0_setStroke 22 = .ok (.ireturn, 1) := dk_172 (dk_at dksX0_setStroke_0 22 rfl rfl)
theorem dX0_setStroke_23 : decode cX0_setStroke 23 = .ok (.astore 5, 2) := dk_58 5 (dk_at dksX0_setStroke_1 0 rfl rfl)
theorem dX0_setStroke_25 : decode cX0_setStroke 25 = .ok (.iconst 3, 1) := dk_6 (dk_at dksX0_setStroke_1 2 rfl rfl)
theorem dX0_setStroke_26 : decode cX0_setStroke 26 = .ok (.ireturn, 1) := dk_172 (dk_at dksX0_setStroke_1 3 rfl rfl)
theorem dX0_setStroke_27 : decode cX0_setStroke 27 = .ok (.iconst 0, 1) := dk_3 (dk_at dksX0_setStroke_1 4 rfl rfl)
theorem dX0_setStroke_28 : decode cX0_setStroke 28 = .ok (.ireturn, 1) := dk_172 (dk_at dksX0_setStroke_1 5 rfl rfl)
abbrev cX0_cellsOf : ByteArray := method_11_code
def yX0_cellsOf : MethodName := ⟨RX0, "cellsOf", "(LFigureSurvey;I[J)I"⟩
def dkwX0_cellsOf_0 : List UInt8 := [44, 3, 42, 27, 182, 0, 45, 80, 167, 0, 6, 78, 4, 172, 3, 172]
abbrev dktX0_cellsOf_0 : List UInt8 := dkwX0_cellsOf_0 ++ []
theorem dksX0_cellsOf_0 : cX0_cellsOf.data.toList.drop 0 = dktX0_cellsOf_0 := by decide +kernel
theorem dX0_cellsOf_0 : decode cX0_cellsOf 0 = .ok (.aload_n 2, 1) := dk_44 (dk_at dksX0_cellsOf_0 0 rfl rfl)
theorem dX0_cellsOf_1 : decode cX0_cellsOf 1 = .ok (.iconst 0, 1) := dk_3 (dk_at dksX0_cellsOf_0 1 rfl rfl)
theorem dX0_cellsOf_2 : decode cX0_cellsOf 2 = .ok (.aload_n 0, 1) := dk_42 (dk_at dksX0_cellsOf_0 2 rfl rfl)
theorem dX0_cellsOf_3 : decode cX0_cellsOf 3 = .ok (.iload_n 1, 1) := dk_27 (dk_at dksX0_cellsOf_0 3 rfl rfl)
theorem dX0_cellsOf_4 : decode cX0_cellsOf 4 = .ok (.invokevirtual 45, 3) := dk_182 0 45 (dk_at dksX0_cellsOf_0 4 rfl rfl)
theorem dX0_cellsOf_7 : decode cX0_cellsOf 7 = .ok (.lastore, 1) := dk_80 (dk_at dksX0_cellsOf_0 7 rfl rfl)
theorem dX0_cellsOf_8 : decode cX0_cellsOf 8 = .ok (.goto 6, 3) := dk_167 0 6 (dk_at dksX0_cellsOf_0 8 rfl rfl)
theorem dX0_cellsOf_11 : decode cX0_cellsOf 11 = .ok (.astore_n 3, 1) := dk_78 (dk_at dksX0_cellsOf_0 11 rfl rfl)
theorem dX0_cellsOf_12 : decode cX0_cellsOf 12 = .ok (.iconst 1, 1) := dk_4 (dk_at dksX0_cellsOf_0 12 rfl rfl)
theorem dX0_cellsOf_13 : decode cX0_cellsOf 13 = .ok (.ireturn, 1) := dk_172 (dk_at dksX0_cellsOf_0 13 rfl rfl)
theorem dX0_cellsOf_14 : decode cX0_cellsOf 14 = .ok (.iconst 0, 1) := dk_3 (dk_at dksX0_cellsOf_0 14 rfl rfl)
theorem dX0_cellsOf_15 : decode cX0_cellsOf 15 = .ok (.ireturn, 1) := dk_172 (dk_at dksX0_cellsOf_0 15 rfl rfl)
abbrev cX0_foundShare : ByteArray := method_12_code
def yX0_foundShare : MethodName := ⟨RX0, "foundShare", "(LFigureSurvey;I[J)I"⟩
def dkwX0_foundShare_0 : List UInt8 := [44, 3, 42, 27, 182, 0, 49, 133, 80, 167, 0, 6, 78, 4, 172, 3, 172]
abbrev dktX0_foundShare_0 : List UInt8 := dkwX0_foundShare_0 ++ []
theorem dksX0_foundShare_0 : cX0_foundShare.data.toList.drop 0 = dktX0_foundShare_0 := by decide +kernel
theorem dX0_foundShare_0 : decode cX0_foundShare 0 = .ok (.aload_n 2, 1) := dk_44 (dk_at dksX0_foundShare_0 0 rfl rfl)
theorem dX0_foundShare_1 : decode cX0_foundShare 1 = .ok (.iconst 0, 1) := dk_3 (dk_at dksX0_foundShare_0 1 rfl rfl)
theorem dX0_foundShare_2 : decode cX0_foundShare 2 = .ok (.aload_n 0, 1) := dk_42 (dk_at dksX0_foundShare_0 2 rfl rfl)
theorem dX0_foundShare_3 : decode cX0_foundShare 3 = .ok (.iload_n 1, 1) := dk_27 (dk_at dksX0_foundShare_0 3 rfl rfl)
theorem dX0_foundShare_4 : decode cX0_foundShare 4 = .ok (.invokevirtual 49, 3) := dk_182 0 49 (dk_at dksX0_foundShare_0 4 rfl rfl)
theorem dX0_foundShare_7 : decode cX0_foundShare 7 = .ok (.i2l, 1) := dk_133 (dk_at dksX0_foundShare_0 7 rfl rfl)
theorem dX0_foundShare_8 : decode cX0_foundShare 8 = .ok (.lastore, 1) := dk_80 (dk_at dksX0_foundShare_0 8 rfl rfl)
theorem dX0_foundShare_9 : decode cX0_foundShare 9 = .ok (.goto 6, 3) := dk_167 0 6 (dk_at dksX0_foundShare_0 9 rfl rfl)
theorem dX0_foundShare_12 : decode cX0_foundShare 12 = .ok (.astore_n 3, 1) := dk_78 (dk_at dksX0_foundShare_0 12 rfl rfl)
theorem dX0_foundShare_13 : decode cX0_foundShare 13 = .ok (.iconst 1, 1) := dk_4 (dk_at dksX0_foundShare_0 13 rfl rfl)
theorem dX0_foundShare_14 : decode cX0_foundShare 14 = .ok (.ireturn, 1) := dk_172 (dk_at dksX0_foundShare_0 14 rfl rfl)
theorem dX0_foundShare_15 : decode cX0_foundShare 15 = .ok (.iconst 0, 1) := dk_3 (dk_at dksX0_foundShare_0 15 rfl rfl)
theorem dX0_foundShare_16 : decode cX0_foundShare 16 = .ok (.ireturn, 1) := dk_172 (dk_at dksX0_foundShare_0 16 rfl rfl)
abbrev cX0_sharedCells : ByteArray := method_13_code
def yX0_sharedCells : MethodName := ⟨RX0, "sharedCells", "(LFigureSurvey;II[J)I"⟩
def dkwX0_sharedCells_0 : List UInt8 := [45, 3, 42, 27, 28, 182, 0, 52, 133, 80, 167, 0, 7, 58, 4, 4, 172, 3, 172]
abbrev dktX0_sharedCells_0 : List UInt8 := dkwX0_sharedCells_0 ++ []
theorem dksX0_sharedCells_0 : cX0_sharedCells.data.toList.drop 0 = dktX0_sharedCells_0 := by decide +kernel
theorem dX0_sharedCells_0 : decode cX0_sharedCells 0 = .ok (.aload_n 3, 1) := dk_45 (dk_at dksX0_sharedCells_0 0 rfl rfl)
theorem dX0_sharedCells_1 : decode cX0_sharedCells 1 = .ok (.iconst 0, 1) := dk_3 (dk_at dksX0_sharedCells_0 1 rfl rfl)
theorem dX0_sharedCells_2 : decode cX0_sharedCells 2 = .ok (.aload_n 0, 1) := dk_42 (dk_at dksX0_sharedCells_0 2 rfl rfl)
theorem dX0_sharedCells_3 : decode cX0_sharedCells 3 = .ok (.iload_n 1, 1) := dk_27 (dk_at dksX0_sharedCells_0 3 rfl rfl)
theorem dX0_sharedCells_4 : decode cX0_sharedCells 4 = .ok (.iload_n 2, 1) := dk_28 (dk_at dksX0_sharedCells_0 4 rfl rfl)
theorem dX0_sharedCells_5 : decode cX0_sharedCells 5 = .ok (.invokevirtual 52, 3) := dk_182 0 52 (dk_at dksX0_sharedCells_0 5 rfl rfl)
theorem dX0_sharedCells_8 : decode cX0_sharedCells 8 = .ok (.i2l, 1) := dk_133 (dk_at dksX0_sharedCells_0 8 rfl rfl)
theorem dX0_sharedCells_9 : decode cX0_sharedCells 9 = .ok (.lastore, 1) := dk_80 (dk_at dksX0_sharedCells_0 9 rfl rfl)
theorem dX0_sharedCells_10 : decode cX0_sharedCells 10 = .ok (.goto 7, 3) := dk_167 0 7 (dk_at dksX0_sharedCells_0 10 rfl rfl)
theorem dX0_sharedCells_13 : decode cX0_sharedCells 13 = .ok (.astore 4, 2) := dk_58 4 (dk_at dksX0_sharedCells_0 13 rfl rfl)
theorem dX0_sharedCells_15 : decode cX0_sharedCells 15 = .ok (.iconst 1, 1) := dk_4 (dk_at dksX0_sharedCells_0 15 rfl rfl)
theorem dX0_sharedCells_16 : decode cX0_sharedCells 16 = .ok (.ireturn, 1) := dk_172 (dk_at dksX0_sharedCells_0 16 rfl rfl)
theorem dX0_sharedCells_17 : decode cX0_sharedCells 17 = .ok (.iconst 0, 1) := dk_3 (dk_at dksX0_sharedCells_0 17 rfl rfl)
theorem dX0_sharedCells_18 : decode cX0_sharedCells 18 = .ok (.ireturn, 1) := dk_172 (dk_at dksX0_sharedCells_0 18 rfl rfl)
abbrev cX0_harm : ByteArray := method_14_code
def yX0_harm : MethodName := ⟨RX0, "harm", "(LFigureSurvey;IJ[J)I"⟩
def dkwX0_harm_0 : List UInt8 := [25, 4, 3, 42, 27, 32, 182, 0, 55, 133, 80, 167, 0, 11, 58, 5, 4, 172, 58, 5, 5, 172, 3, 172]
abbrev dktX0_harm_0 : List UInt8 := dkwX0_harm_0 ++ []
theorem dksX0_harm_0 : cX0_harm.data.toList.drop 0 = dktX0_harm_0 := by decide +kernel
theorem dX0_harm_0 : decode cX0_harm 0 = .ok (.aload 4, 2) := dk_25 4 (dk_at dksX0_harm_0 0 rfl rfl)
theorem dX0_harm_2 : decode cX0_harm 2 = .ok (.iconst 0, 1) := dk_3 (dk_at dksX0_harm_0 2 rfl rfl)
theorem dX0_harm_3 : decode cX0_harm 3 = .ok (.aload_n 0, 1) := dk_42 (dk_at dksX0_harm_0 3 rfl rfl)
theorem dX0_harm_4 : decode cX0_harm 4 = .ok (.iload_n 1, 1) := dk_27 (dk_at dksX0_harm_0 4 rfl rfl)
theorem dX0_harm_5 : decode cX0_harm 5 = .ok (.lload_n 2, 1) := dk_32 (dk_at dksX0_harm_0 5 rfl rfl)
theorem dX0_harm_6 : decode cX0_harm 6 = .ok (.invokevirtual 55, 3) := dk_182 0 55 (dk_at dksX0_harm_0 6 rfl rfl)
theorem dX0_harm_9 : decode cX0_harm 9 = .ok (.i2l, 1) := dk_133 (dk_at dksX0_harm_0 9 rfl rfl)
theorem dX0_harm_10 : decode cX0_harm 10 = .ok (.lastore, 1) := dk_80 (dk_at dksX0_harm_0 10 rfl rfl)
theorem dX0_harm_11 : decode cX0_harm 11 = .ok (.goto 11, 3) := dk_167 0 11 (dk_at dksX0_harm_0 11 rfl rfl)
theorem dX0_harm_14 : decode cX0_harm 14 = .ok (.astore 5, 2) := dk_58 5 (dk_at dksX0_harm_0 14 rfl rfl)
theorem dX0_harm_16 : decode cX0_harm 16 = .ok (.iconst 1, 1) := dk_4 (dk_at dksX0_harm_0 16 rfl rfl)
theorem dX0_harm_17 : decode cX0_harm 17 = .ok (.ireturn, 1) := dk_172 (dk_at dksX0_harm_0 17 rfl rfl)
theorem dX0_harm_18 : decode cX0_harm 18 = .ok (.astore 5, 2) := dk_58 5 (dk_at dksX0_harm_0 18 rfl rfl)
theorem dX0_harm_20 : decode cX0_harm 20 = .ok (.iconst 2, 1) := dk_5 (dk_at dksX0_harm_0 20 rfl rfl)
theorem dX0_harm_21 : decode cX0_harm 21 = .ok (.ireturn, 1) := dk_172 (dk_at dksX0_harm_0 21 rfl rfl)
theorem dX0_harm_22 : decode cX0_harm 22 = .ok (.iconst 0, 1) := dk_3 (dk_at dksX0_harm_0 22 rfl rfl)
theorem dX0_harm_23 : decode cX0_harm 23 = .ok (.ireturn, 1) := dk_172 (dk_at dksX0_harm_0 23 rfl rfl)
abbrev cX0_cast : ByteArray := method_15_code
def yX0_cast : MethodName := ⟨RX0, "cast", "(LFigureSurvey;I[J)I"⟩
def dkwX0_cast_0 : List UInt8 := [44, 3, 42, 27, 182, 0, 58, 133, 80, 167, 0, 9, 78, 4, 172, 78, 5, 172, 3, 172]
abbrev dktX0_cast_0 : List UInt8 := dkwX0_cast_0 ++ []
theorem dksX0_cast_0 : cX0_cast.data.toList.drop 0 = dktX0_cast_0 := by decide +kernel
theorem dX0_cast_0 : decode cX0_cast 0 = .ok (.aload_n 2, 1) := dk_44 (dk_at dksX0_cast_0 0 rfl rfl)
theorem dX0_cast_1 : decode cX0_cast 1 = .ok (.iconst 0, 1) := dk_3 (dk_at dksX0_cast_0 1 rfl rfl)
theorem dX0_cast_2 : decode cX0_cast 2 = .ok (.aload_n 0, 1) := dk_42 (dk_at dksX0_cast_0 2 rfl rfl)
theorem dX0_cast_3 : decode cX0_cast 3 = .ok (.iload_n 1, 1) := dk_27 (dk_at dksX0_cast_0 3 rfl rfl)
theorem dX0_cast_4 : decode cX0_cast 4 = .ok (.invokevirtual 58, 3) := dk_182 0 58 (dk_at dksX0_cast_0 4 rfl rfl)
theorem dX0_cast_7 : decode cX0_cast 7 = .ok (.i2l, 1) := dk_133 (dk_at dksX0_cast_0 7 rfl rfl)
theorem dX0_cast_8 : decode cX0_cast 8 = .ok (.lastore, 1) := dk_80 (dk_at dksX0_cast_0 8 rfl rfl)
theorem dX0_cast_9 : decode cX0_cast 9 = .ok (.goto 9, 3) := dk_167 0 9 (dk_at dksX0_cast_0 9 rfl rfl)
theorem dX0_cast_12 : decode cX0_cast 12 = .ok (.astore_n 3, 1) := dk_78 (dk_at dksX0_cast_0 12 rfl rfl)
theorem dX0_cast_13 : decode cX0_cast 13 = .ok (.iconst 1, 1) := dk_4 (dk_at dksX0_cast_0 13 rfl rfl)
theorem dX0_cast_14 : decode cX0_cast 14 = .ok (.ireturn, 1) := dk_172 (dk_at dksX0_cast_0 14 rfl rfl)
theorem dX0_cast_15 : decode cX0_cast 15 = .ok (.astore_n 3, 1) := dk_78 (dk_at dksX0_cast_0 15 rfl rfl)
theorem dX0_cast_16 : decode cX0_cast 16 = .ok (.iconst 2, 1) := dk_5 (dk_at dksX0_cast_0 16 rfl rfl)
theorem dX0_cast_17 : decode cX0_cast 17 = .ok (.ireturn, 1) := dk_172 (dk_at dksX0_cast_0 17 rfl rfl)
theorem dX0_cast_18 : decode cX0_cast 18 = .ok (.iconst 0, 1) := dk_3 (dk_at dksX0_cast_0 18 rfl rfl)
theorem dX0_cast_19 : decode cX0_cast 19 = .ok (.ireturn, 1) := dk_172 (dk_at dksX0_cast_0 19 rfl rfl)
abbrev cX0_trace : ByteArray := method_16_code
def yX0_trace : MethodName := ⟨RX0, "trace", "(LFigureSurvey;IIJ[J)I"⟩
def dkwX0_trace_1 : List UInt8 := [58, 6, 6, 172, 3, 172]
abbrev dktX0_trace_1 : List UInt8 := dkwX0_trace_1 ++ []
def dkwX0_trace_0 : List UInt8 := [25, 5, 3, 42, 27, 28, 33, 182, 0, 61, 133, 80, 167, 0, 15, 58, 6, 4, 172, 58, 6, 5, 172]
abbrev dktX0_trace_0 : List UInt8 := dkwX0_trace_0 ++ dktX0_trace_1
theorem dksX0_trace_0 : cX0_trace.data.toList.drop 0 = dktX0_trace_0 := by decide +kernel
theorem dksX0_trace_1 : cX0_trace.data.toList.drop 23 = dktX0_trace_1 := dk_seg dksX0_trace_0 23 rfl rfl
theorem dX0_trace_0 : decode cX0_trace 0 = .ok (.aload 5, 2) := dk_25 5 (dk_at dksX0_trace_0 0 rfl rfl)
theorem dX0_trace_2 : decode cX0_trace 2 = .ok (.iconst 0, 1) := dk_3 (dk_at dksX0_trace_0 2 rfl rfl)
theorem dX0_trace_3 : decode cX0_trace 3 = .ok (.aload_n 0, 1) := dk_42 (dk_at dksX0_trace_0 3 rfl rfl)
theorem dX0_trace_4 : decode cX0_trace 4 = .ok (.iload_n 1, 1) := dk_27 (dk_at dksX0_trace_0 4 rfl rfl)
theorem dX0_trace_5 : decode cX0_trace 5 = .ok (.iload_n 2, 1) := dk_28 (dk_at dksX0_trace_0 5 rfl rfl)
theorem dX0_trace_6 : decode cX0_trace 6 = .ok (.lload_n 3, 1) := dk_33 (dk_at dksX0_trace_0 6 rfl rfl)
theorem dX0_trace_7 : decode cX0_trace 7 = .ok (.invokevirtual 61, 3) := dk_182 0 61 (dk_at dksX0_trace_0 7 rfl rfl)
theorem dX0_trace_10 : decode cX0_trace 10 = .ok (.i2l, 1) := dk_133 (dk_at dksX0_trace_0 10 rfl rfl)
theorem dX0_trace_11 : decode cX0_trace 11 = .ok (.lastore, 1) := dk_80 (dk_at dksX0_trace_0 11 rfl rfl)
theorem dX0_trace_12 : decode cX0_trace 12 = .ok (.goto 15, 3) := dk_167 0 15 (dk_at dksX0_trace_0 12 rfl rfl)
theorem dX0_trace_15 : decode cX0_trace 15 = .ok (.astore 6, 2) := dk_58 6 (dk_at dksX0_trace_0 15 rfl rfl)
theorem dX0_trace_17 : decode cX0_trace 17 = .ok (.iconst 1, 1) := dk_4 (dk_at dksX0_trace_0 17 rfl rfl)
theorem dX0_trace_18 : decode cX0_trace 18 = .ok (.ireturn, 1) := dk_172 (dk_at dksX0_trace_0 18 rfl rfl)
theorem dX0_trace_19 : decode cX0_trace 19 = .ok (.astore 6, 2) := dk_58 6 (dk_at dksX0_trace_0 19 rfl rfl)
theorem dX0_trace_21 : decode cX0_trace 21 = .ok (.iconst 2, 1) := dk_5 (dk_at dksX0_trace_0 21 rfl rfl)
theorem dX0_trace_22 : decode cX0_trace 22 = .ok (.ireturn, 1) := dk_172 (dk_at dksX0_trace_0 22 rfl rfl)
theorem dX0_trace_23 : decode cX0_trace 23 = .ok (.astore 6, 2) := dk_58 6 (dk_at dksX0_trace_1 0 rfl rfl)
theorem dX0_trace_25 : decode cX0_trace 25 = .ok (.iconst 3, 1) := dk_6 (dk_at dksX0_trace_1 2 rfl rfl)
theorem dX0_trace_26 : decode cX0_trace 26 = .ok (.ireturn, 1) := dk_172 (dk_at dksX0_trace_1 3 rfl rfl)
theorem dX0_trace_27 : decode cX0_trace 27 = .ok (.iconst 0, 1) := dk_3 (dk_at dksX0_trace_1 4 rfl rfl)
theorem dX0_trace_28 : decode cX0_trace 28 = .ok (.ireturn, 1) := dk_172 (dk_at dksX0_trace_1 5 rfl rfl)
abbrev cX0_shiftOf : ByteArray := method_17_code
def yX0_shiftOf : MethodName := ⟨RX0, "shiftOf", "(LFigureSurvey;I[J)I"⟩
def dkwX0_shiftOf_0 : List UInt8 := [44, 3, 42, 27, 182, 0, 65, 133, 80, 167, 0, 6, 78, 4, 172, 3, 172]
abbrev dktX0_shiftOf_0 : List UInt8 := dkwX0_shiftOf_0 ++ []
theorem dksX0_shiftOf_0 : cX0_shiftOf.data.toList.drop 0 = dktX0_shiftOf_0 := by decide +kernel
theorem dX0_shiftOf_0 : decode cX0_shiftOf 0 = .ok (.aload_n 2, 1) := dk_44 (dk_at dksX0_shiftOf_0 0 rfl rfl)
theorem dX0_shiftOf_1 : decode cX0_shiftOf 1 = .ok (.iconst 0, 1) := dk_3 (dk_at dksX0_shiftOf_0 1 rfl rfl)
theorem dX0_shiftOf_2 : decode cX0_shiftOf 2 = .ok (.aload_n 0, 1) := dk_42 (dk_at dksX0_shiftOf_0 2 rfl rfl)
theorem dX0_shiftOf_3 : decode cX0_shiftOf 3 = .ok (.iload_n 1, 1) := dk_27 (dk_at dksX0_shiftOf_0 3 rfl rfl)
theorem dX0_shiftOf_4 : decode cX0_shiftOf 4 = .ok (.invokevirtual 65, 3) := dk_182 0 65 (dk_at dksX0_shiftOf_0 4 rfl rfl)
theorem dX0_shiftOf_7 : decode cX0_shiftOf 7 = .ok (.i2l, 1) := dk_133 (dk_at dksX0_shiftOf_0 7 rfl rfl)
theorem dX0_shiftOf_8 : decode cX0_shiftOf 8 = .ok (.lastore, 1) := dk_80 (dk_at dksX0_shiftOf_0 8 rfl rfl)
theorem dX0_shiftOf_9 : decode cX0_shiftOf 9 = .ok (.goto 6, 3) := dk_167 0 6 (dk_at dksX0_shiftOf_0 9 rfl rfl)
theorem dX0_shiftOf_12 : decode cX0_shiftOf 12 = .ok (.astore_n 3, 1) := dk_78 (dk_at dksX0_shiftOf_0 12 rfl rfl)
theorem dX0_shiftOf_13 : decode cX0_shiftOf 13 = .ok (.iconst 1, 1) := dk_4 (dk_at dksX0_shiftOf_0 13 rfl rfl)
theorem dX0_shiftOf_14 : decode cX0_shiftOf 14 = .ok (.ireturn, 1) := dk_172 (dk_at dksX0_shiftOf_0 14 rfl rfl)
theorem dX0_shiftOf_15 : decode cX0_shiftOf 15 = .ok (.iconst 0, 1) := dk_3 (dk_at dksX0_shiftOf_0 15 rfl rfl)
theorem dX0_shiftOf_16 : decode cX0_shiftOf 16 = .ok (.ireturn, 1) := dk_172 (dk_at dksX0_shiftOf_0 16 rfl rfl)
abbrev cX0_scoreOf : ByteArray := method_18_code
def yX0_scoreOf : MethodName := ⟨RX0, "scoreOf", "(LFigureSurvey;I[J)I"⟩
def dkwX0_scoreOf_0 : List UInt8 := [44, 3, 42, 27, 182, 0, 68, 133, 80, 167, 0, 6, 78, 4, 172, 3, 172]
abbrev dktX0_scoreOf_0 : List UInt8 := dkwX0_scoreOf_0 ++ []
theorem dksX0_scoreOf_0 : cX0_scoreOf.data.toList.drop 0 = dktX0_scoreOf_0 := by decide +kernel
theorem dX0_scoreOf_0 : decode cX0_scoreOf 0 = .ok (.aload_n 2, 1) := dk_44 (dk_at dksX0_scoreOf_0 0 rfl rfl)
theorem dX0_scoreOf_1 : decode cX0_scoreOf 1 = .ok (.iconst 0, 1) := dk_3 (dk_at dksX0_scoreOf_0 1 rfl rfl)
theorem dX0_scoreOf_2 : decode cX0_scoreOf 2 = .ok (.aload_n 0, 1) := dk_42 (dk_at dksX0_scoreOf_0 2 rfl rfl)
theorem dX0_scoreOf_3 : decode cX0_scoreOf 3 = .ok (.iload_n 1, 1) := dk_27 (dk_at dksX0_scoreOf_0 3 rfl rfl)
theorem dX0_scoreOf_4 : decode cX0_scoreOf 4 = .ok (.invokevirtual 68, 3) := dk_182 0 68 (dk_at dksX0_scoreOf_0 4 rfl rfl)
theorem dX0_scoreOf_7 : decode cX0_scoreOf 7 = .ok (.i2l, 1) := dk_133 (dk_at dksX0_scoreOf_0 7 rfl rfl)
theorem dX0_scoreOf_8 : decode cX0_scoreOf 8 = .ok (.lastore, 1) := dk_80 (dk_at dksX0_scoreOf_0 8 rfl rfl)
theorem dX0_scoreOf_9 : decode cX0_scoreOf 9 = .ok (.goto 6, 3) := dk_167 0 6 (dk_at dksX0_scoreOf_0 9 rfl rfl)
theorem dX0_scoreOf_12 : decode cX0_scoreOf 12 = .ok (.astore_n 3, 1) := dk_78 (dk_at dksX0_scoreOf_0 12 rfl rfl)
theorem dX0_scoreOf_13 : decode cX0_scoreOf 13 = .ok (.iconst 1, 1) := dk_4 (dk_at dksX0_scoreOf_0 13 rfl rfl)
theorem dX0_scoreOf_14 : decode cX0_scoreOf 14 = .ok (.ireturn, 1) := dk_172 (dk_at dksX0_scoreOf_0 14 rfl rfl)
theorem dX0_scoreOf_15 : decode cX0_scoreOf 15 = .ok (.iconst 0, 1) := dk_3 (dk_at dksX0_scoreOf_0 15 rfl rfl)
theorem dX0_scoreOf_16 : decode cX0_scoreOf 16 = .ok (.ireturn, 1) := dk_172 (dk_at dksX0_scoreOf_0 16 rfl rfl)
abbrev cX0_handScore : ByteArray := method_19_code
def yX0_handScore : MethodName := ⟨RX0, "handScore", "(LFigureSurvey;I[J)I"⟩
def dkwX0_handScore_0 : List UInt8 := [44, 3, 42, 27, 182, 0, 71, 133, 80, 167, 0, 6, 78, 4, 172, 3, 172]
abbrev dktX0_handScore_0 : List UInt8 := dkwX0_handScore_0 ++ []
theorem dksX0_handScore_0 : cX0_handScore.data.toList.drop 0 = dktX0_handScore_0 := by decide +kernel
theorem dX0_handScore_0 : decode cX0_handScore 0 = .ok (.aload_n 2, 1) := dk_44 (dk_at dksX0_handScore_0 0 rfl rfl)
theorem dX0_handScore_1 : decode cX0_handScore 1 = .ok (.iconst 0, 1) := dk_3 (dk_at dksX0_handScore_0 1 rfl rfl)
theorem dX0_handScore_2 : decode cX0_handScore 2 = .ok (.aload_n 0, 1) := dk_42 (dk_at dksX0_handScore_0 2 rfl rfl)
theorem dX0_handScore_3 : decode cX0_handScore 3 = .ok (.iload_n 1, 1) := dk_27 (dk_at dksX0_handScore_0 3 rfl rfl)
theorem dX0_handScore_4 : decode cX0_handScore 4 = .ok (.invokevirtual 71, 3) := dk_182 0 71 (dk_at dksX0_handScore_0 4 rfl rfl)
theorem dX0_handScore_7 : decode cX0_handScore 7 = .ok (.i2l, 1) := dk_133 (dk_at dksX0_handScore_0 7 rfl rfl)
theorem dX0_handScore_8 : decode cX0_handScore 8 = .ok (.lastore, 1) := dk_80 (dk_at dksX0_handScore_0 8 rfl rfl)
theorem dX0_handScore_9 : decode cX0_handScore 9 = .ok (.goto 6, 3) := dk_167 0 6 (dk_at dksX0_handScore_0 9 rfl rfl)
theorem dX0_handScore_12 : decode cX0_handScore 12 = .ok (.astore_n 3, 1) := dk_78 (dk_at dksX0_handScore_0 12 rfl rfl)
theorem dX0_handScore_13 : decode cX0_handScore 13 = .ok (.iconst 1, 1) := dk_4 (dk_at dksX0_handScore_0 13 rfl rfl)
theorem dX0_handScore_14 : decode cX0_handScore 14 = .ok (.ireturn, 1) := dk_172 (dk_at dksX0_handScore_0 14 rfl rfl)
theorem dX0_handScore_15 : decode cX0_handScore 15 = .ok (.iconst 0, 1) := dk_3 (dk_at dksX0_handScore_0 15 rfl rfl)
theorem dX0_handScore_16 : decode cX0_handScore 16 = .ok (.ireturn, 1) := dk_172 (dk_at dksX0_handScore_0 16 rfl rfl)
abbrev cX0_consensus : ByteArray := method_20_code
def yX0_consensus : MethodName := ⟨RX0, "consensus", "(LFigureSurvey;I[J)I"⟩
def dkwX0_consensus_0 : List UInt8 := [44, 3, 42, 27, 182, 0, 74, 80, 167, 0, 6, 78, 4, 172, 3, 172]
abbrev dktX0_consensus_0 : List UInt8 := dkwX0_consensus_0 ++ []
theorem dksX0_consensus_0 : cX0_consensus.data.toList.drop 0 = dktX0_consensus_0 := by decide +kernel
theorem dX0_consensus_0 : decode cX0_consensus 0 = .ok (.aload_n 2, 1) := dk_44 (dk_at dksX0_consensus_0 0 rfl rfl)
theorem dX0_consensus_1 : decode cX0_consensus 1 = .ok (.iconst 0, 1) := dk_3 (dk_at dksX0_consensus_0 1 rfl rfl)
theorem dX0_consensus_2 : decode cX0_consensus 2 = .ok (.aload_n 0, 1) := dk_42 (dk_at dksX0_consensus_0 2 rfl rfl)
theorem dX0_consensus_3 : decode cX0_consensus 3 = .ok (.iload_n 1, 1) := dk_27 (dk_at dksX0_consensus_0 3 rfl rfl)
theorem dX0_consensus_4 : decode cX0_consensus 4 = .ok (.invokevirtual 74, 3) := dk_182 0 74 (dk_at dksX0_consensus_0 4 rfl rfl)
theorem dX0_consensus_7 : decode cX0_consensus 7 = .ok (.lastore, 1) := dk_80 (dk_at dksX0_consensus_0 7 rfl rfl)
theorem dX0_consensus_8 : decode cX0_consensus 8 = .ok (.goto 6, 3) := dk_167 0 6 (dk_at dksX0_consensus_0 8 rfl rfl)
theorem dX0_consensus_11 : decode cX0_consensus 11 = .ok (.astore_n 3, 1) := dk_78 (dk_at dksX0_consensus_0 11 rfl rfl)
theorem dX0_consensus_12 : decode cX0_consensus 12 = .ok (.iconst 1, 1) := dk_4 (dk_at dksX0_consensus_0 12 rfl rfl)
theorem dX0_consensus_13 : decode cX0_consensus 13 = .ok (.ireturn, 1) := dk_172 (dk_at dksX0_consensus_0 13 rfl rfl)
theorem dX0_consensus_14 : decode cX0_consensus 14 = .ok (.iconst 0, 1) := dk_3 (dk_at dksX0_consensus_0 14 rfl rfl)
theorem dX0_consensus_15 : decode cX0_consensus 15 = .ok (.ireturn, 1) := dk_172 (dk_at dksX0_consensus_0 15 rfl rfl)
abbrev cX0_mark : ByteArray := method_21_code
def yX0_mark : MethodName := ⟨RX0, "mark", "(LFigureSurvey;II[J)I"⟩
def dkwX0_mark_0 : List UInt8 := [45, 3, 42, 27, 28, 182, 0, 77, 133, 80, 167, 0, 11, 58, 4, 4, 172, 58, 4, 5, 172, 3, 172]
abbrev dktX0_mark_0 : List UInt8 := dkwX0_mark_0 ++ []
theorem dksX0_mark_0 : cX0_mark.data.toList.drop 0 = dktX0_mark_0 := by decide +kernel
theorem dX0_mark_0 : decode cX0_mark 0 = .ok (.aload_n 3, 1) := dk_45 (dk_at dksX0_mark_0 0 rfl rfl)
theorem dX0_mark_1 : decode cX0_mark 1 = .ok (.iconst 0, 1) := dk_3 (dk_at dksX0_mark_0 1 rfl rfl)
theorem dX0_mark_2 : decode cX0_mark 2 = .ok (.aload_n 0, 1) := dk_42 (dk_at dksX0_mark_0 2 rfl rfl)
theorem dX0_mark_3 : decode cX0_mark 3 = .ok (.iload_n 1, 1) := dk_27 (dk_at dksX0_mark_0 3 rfl rfl)
theorem dX0_mark_4 : decode cX0_mark 4 = .ok (.iload_n 2, 1) := dk_28 (dk_at dksX0_mark_0 4 rfl rfl)
theorem dX0_mark_5 : decode cX0_mark 5 = .ok (.invokevirtual 77, 3) := dk_182 0 77 (dk_at dksX0_mark_0 5 rfl rfl)
theorem dX0_mark_8 : decode cX0_mark 8 = .ok (.i2l, 1) := dk_133 (dk_at dksX0_mark_0 8 rfl rfl)
theorem dX0_mark_9 : decode cX0_mark 9 = .ok (.lastore, 1) := dk_80 (dk_at dksX0_mark_0 9 rfl rfl)
theorem dX0_mark_10 : decode cX0_mark 10 = .ok (.goto 11, 3) := dk_167 0 11 (dk_at dksX0_mark_0 10 rfl rfl)
theorem dX0_mark_13 : decode cX0_mark 13 = .ok (.astore 4, 2) := dk_58 4 (dk_at dksX0_mark_0 13 rfl rfl)
theorem dX0_mark_15 : decode cX0_mark 15 = .ok (.iconst 1, 1) := dk_4 (dk_at dksX0_mark_0 15 rfl rfl)
theorem dX0_mark_16 : decode cX0_mark 16 = .ok (.ireturn, 1) := dk_172 (dk_at dksX0_mark_0 16 rfl rfl)
theorem dX0_mark_17 : decode cX0_mark 17 = .ok (.astore 4, 2) := dk_58 4 (dk_at dksX0_mark_0 17 rfl rfl)
theorem dX0_mark_19 : decode cX0_mark 19 = .ok (.iconst 2, 1) := dk_5 (dk_at dksX0_mark_0 19 rfl rfl)
theorem dX0_mark_20 : decode cX0_mark 20 = .ok (.ireturn, 1) := dk_172 (dk_at dksX0_mark_0 20 rfl rfl)
theorem dX0_mark_21 : decode cX0_mark 21 = .ok (.iconst 0, 1) := dk_3 (dk_at dksX0_mark_0 21 rfl rfl)
theorem dX0_mark_22 : decode cX0_mark 22 = .ok (.ireturn, 1) := dk_172 (dk_at dksX0_mark_0 22 rfl rfl)
abbrev cX0_clearMarks : ByteArray := method_22_code
def yX0_clearMarks : MethodName := ⟨RX0, "clearMarks", "(LFigureSurvey;I[J)I"⟩
def dkwX0_clearMarks_0 : List UInt8 := [44, 3, 42, 27, 182, 0, 80, 133, 80, 167, 0, 6, 78, 4, 172, 3, 172]
abbrev dktX0_clearMarks_0 : List UInt8 := dkwX0_clearMarks_0 ++ []
theorem dksX0_clearMarks_0 : cX0_clearMarks.data.toList.drop 0 = dktX0_clearMarks_0 := by decide +kernel
theorem dX0_clearMarks_0 : decode cX0_clearMarks 0 = .ok (.aload_n 2, 1) := dk_44 (dk_at dksX0_clearMarks_0 0 rfl rfl)
theorem dX0_clearMarks_1 : decode cX0_clearMarks 1 = .ok (.iconst 0, 1) := dk_3 (dk_at dksX0_clearMarks_0 1 rfl rfl)
theorem dX0_clearMarks_2 : decode cX0_clearMarks 2 = .ok (.aload_n 0, 1) := dk_42 (dk_at dksX0_clearMarks_0 2 rfl rfl)
theorem dX0_clearMarks_3 : decode cX0_clearMarks 3 = .ok (.iload_n 1, 1) := dk_27 (dk_at dksX0_clearMarks_0 3 rfl rfl)
theorem dX0_clearMarks_4 : decode cX0_clearMarks 4 = .ok (.invokevirtual 80, 3) := dk_182 0 80 (dk_at dksX0_clearMarks_0 4 rfl rfl)
theorem dX0_clearMarks_7 : decode cX0_clearMarks 7 = .ok (.i2l, 1) := dk_133 (dk_at dksX0_clearMarks_0 7 rfl rfl)
theorem dX0_clearMarks_8 : decode cX0_clearMarks 8 = .ok (.lastore, 1) := dk_80 (dk_at dksX0_clearMarks_0 8 rfl rfl)
theorem dX0_clearMarks_9 : decode cX0_clearMarks 9 = .ok (.goto 6, 3) := dk_167 0 6 (dk_at dksX0_clearMarks_0 9 rfl rfl)
theorem dX0_clearMarks_12 : decode cX0_clearMarks 12 = .ok (.astore_n 3, 1) := dk_78 (dk_at dksX0_clearMarks_0 12 rfl rfl)
theorem dX0_clearMarks_13 : decode cX0_clearMarks 13 = .ok (.iconst 1, 1) := dk_4 (dk_at dksX0_clearMarks_0 13 rfl rfl)
theorem dX0_clearMarks_14 : decode cX0_clearMarks 14 = .ok (.ireturn, 1) := dk_172 (dk_at dksX0_clearMarks_0 14 rfl rfl)
theorem dX0_clearMarks_15 : decode cX0_clearMarks 15 = .ok (.iconst 0, 1) := dk_3 (dk_at dksX0_clearMarks_0 15 rfl rfl)
theorem dX0_clearMarks_16 : decode cX0_clearMarks 16 = .ok (.ireturn, 1) := dk_172 (dk_at dksX0_clearMarks_0 16 rfl rfl)
abbrev cX0_doubtOf : ByteArray := method_23_code
def yX0_doubtOf : MethodName := ⟨RX0, "doubtOf", "(LFigureSurvey;I[J)I"⟩
def dkwX0_doubtOf_0 : List UInt8 := [44, 3, 42, 27, 182, 0, 83, 133, 80, 167, 0, 6, 78, 4, 172, 3, 172]
abbrev dktX0_doubtOf_0 : List UInt8 := dkwX0_doubtOf_0 ++ []
theorem dksX0_doubtOf_0 : cX0_doubtOf.data.toList.drop 0 = dktX0_doubtOf_0 := by decide +kernel
theorem dX0_doubtOf_0 : decode cX0_doubtOf 0 = .ok (.aload_n 2, 1) := dk_44 (dk_at dksX0_doubtOf_0 0 rfl rfl)
theorem dX0_doubtOf_1 : decode cX0_doubtOf 1 = .ok (.iconst 0, 1) := dk_3 (dk_at dksX0_doubtOf_0 1 rfl rfl)
theorem dX0_doubtOf_2 : decode cX0_doubtOf 2 = .ok (.aload_n 0, 1) := dk_42 (dk_at dksX0_doubtOf_0 2 rfl rfl)
theorem dX0_doubtOf_3 : decode cX0_doubtOf 3 = .ok (.iload_n 1, 1) := dk_27 (dk_at dksX0_doubtOf_0 3 rfl rfl)
theorem dX0_doubtOf_4 : decode cX0_doubtOf 4 = .ok (.invokevirtual 83, 3) := dk_182 0 83 (dk_at dksX0_doubtOf_0 4 rfl rfl)
theorem dX0_doubtOf_7 : decode cX0_doubtOf 7 = .ok (.i2l, 1) := dk_133 (dk_at dksX0_doubtOf_0 7 rfl rfl)
theorem dX0_doubtOf_8 : decode cX0_doubtOf 8 = .ok (.lastore, 1) := dk_80 (dk_at dksX0_doubtOf_0 8 rfl rfl)
theorem dX0_doubtOf_9 : decode cX0_doubtOf 9 = .ok (.goto 6, 3) := dk_167 0 6 (dk_at dksX0_doubtOf_0 9 rfl rfl)
theorem dX0_doubtOf_12 : decode cX0_doubtOf 12 = .ok (.astore_n 3, 1) := dk_78 (dk_at dksX0_doubtOf_0 12 rfl rfl)
theorem dX0_doubtOf_13 : decode cX0_doubtOf 13 = .ok (.iconst 1, 1) := dk_4 (dk_at dksX0_doubtOf_0 13 rfl rfl)
theorem dX0_doubtOf_14 : decode cX0_doubtOf 14 = .ok (.ireturn, 1) := dk_172 (dk_at dksX0_doubtOf_0 14 rfl rfl)
theorem dX0_doubtOf_15 : decode cX0_doubtOf 15 = .ok (.iconst 0, 1) := dk_3 (dk_at dksX0_doubtOf_0 15 rfl rfl)
theorem dX0_doubtOf_16 : decode cX0_doubtOf 16 = .ok (.ireturn, 1) := dk_172 (dk_at dksX0_doubtOf_0 16 rfl rfl)
abbrev cX0_setWeapon : ByteArray := method_24_code
def yX0_setWeapon : MethodName := ⟨RX0, "setWeapon", "(LFigureSurvey;II[J)I"⟩
def dkwX0_setWeapon_0 : List UInt8 := [45, 3, 42, 27, 28, 182, 0, 86, 133, 80, 167, 0, 7, 58, 4, 4, 172, 3, 172]
abbrev dktX0_setWeapon_0 : List UInt8 := dkwX0_setWeapon_0 ++ []
theorem dksX0_setWeapon_0 : cX0_setWeapon.data.toList.drop 0 = dktX0_setWeapon_0 := by decide +kernel
theorem dX0_setWeapon_0 : decode cX0_setWeapon 0 = .ok (.aload_n 3, 1) := dk_45 (dk_at dksX0_setWeapon_0 0 rfl rfl)
theorem dX0_setWeapon_1 : decode cX0_setWeapon 1 = .ok (.iconst 0, 1) := dk_3 (dk_at dksX0_setWeapon_0 1 rfl rfl)
theorem dX0_setWeapon_2 : decode cX0_setWeapon 2 = .ok (.aload_n 0, 1) := dk_42 (dk_at dksX0_setWeapon_0 2 rfl rfl)
theorem dX0_setWeapon_3 : decode cX0_setWeapon 3 = .ok (.iload_n 1, 1) := dk_27 (dk_at dksX0_setWeapon_0 3 rfl rfl)
theorem dX0_setWeapon_4 : decode cX0_setWeapon 4 = .ok (.iload_n 2, 1) := dk_28 (dk_at dksX0_setWeapon_0 4 rfl rfl)
theorem dX0_setWeapon_5 : decode cX0_setWeapon 5 = .ok (.invokevirtual 86, 3) := dk_182 0 86 (dk_at dksX0_setWeapon_0 5 rfl rfl)
theorem dX0_setWeapon_8 : decode cX0_setWeapon 8 = .ok (.i2l, 1) := dk_133 (dk_at dksX0_setWeapon_0 8 rfl rfl)
theorem dX0_setWeapon_9 : decode cX0_setWeapon 9 = .ok (.lastore, 1) := dk_80 (dk_at dksX0_setWeapon_0 9 rfl rfl)
theorem dX0_setWeapon_10 : decode cX0_setWeapon 10 = .ok (.goto 7, 3) := dk_167 0 7 (dk_at dksX0_setWeapon_0 10 rfl rfl)
theorem dX0_setWeapon_13 : decode cX0_setWeapon 13 = .ok (.astore 4, 2) := dk_58 4 (dk_at dksX0_setWeapon_0 13 rfl rfl)
theorem dX0_setWeapon_15 : decode cX0_setWeapon 15 = .ok (.iconst 1, 1) := dk_4 (dk_at dksX0_setWeapon_0 15 rfl rfl)
theorem dX0_setWeapon_16 : decode cX0_setWeapon 16 = .ok (.ireturn, 1) := dk_172 (dk_at dksX0_setWeapon_0 16 rfl rfl)
theorem dX0_setWeapon_17 : decode cX0_setWeapon 17 = .ok (.iconst 0, 1) := dk_3 (dk_at dksX0_setWeapon_0 17 rfl rfl)
theorem dX0_setWeapon_18 : decode cX0_setWeapon 18 = .ok (.ireturn, 1) := dk_172 (dk_at dksX0_setWeapon_0 18 rfl rfl)
abbrev cX0_setAnimal : ByteArray := method_25_code
def yX0_setAnimal : MethodName := ⟨RX0, "setAnimal", "(LFigureSurvey;II[J)I"⟩
def dkwX0_setAnimal_0 : List UInt8 := [45, 3, 42, 27, 28, 182, 0, 89, 133, 80, 167, 0, 7, 58, 4, 4, 172, 3, 172]
abbrev dktX0_setAnimal_0 : List UInt8 := dkwX0_setAnimal_0 ++ []
theorem dksX0_setAnimal_0 : cX0_setAnimal.data.toList.drop 0 = dktX0_setAnimal_0 := by decide +kernel
theorem dX0_setAnimal_0 : decode cX0_setAnimal 0 = .ok (.aload_n 3, 1) := dk_45 (dk_at dksX0_setAnimal_0 0 rfl rfl)
theorem dX0_setAnimal_1 : decode cX0_setAnimal 1 = .ok (.iconst 0, 1) := dk_3 (dk_at dksX0_setAnimal_0 1 rfl rfl)
theorem dX0_setAnimal_2 : decode cX0_setAnimal 2 = .ok (.aload_n 0, 1) := dk_42 (dk_at dksX0_setAnimal_0 2 rfl rfl)
theorem dX0_setAnimal_3 : decode cX0_setAnimal 3 = .ok (.iload_n 1, 1) := dk_27 (dk_at dksX0_setAnimal_0 3 rfl rfl)
theorem dX0_setAnimal_4 : decode cX0_setAnimal 4 = .ok (.iload_n 2, 1) := dk_28 (dk_at dksX0_setAnimal_0 4 rfl rfl)
theorem dX0_setAnimal_5 : decode cX0_setAnimal 5 = .ok (.invokevirtual 89, 3) := dk_182 0 89 (dk_at dksX0_setAnimal_0 5 rfl rfl)
theorem dX0_setAnimal_8 : decode cX0_setAnimal 8 = .ok (.i2l, 1) := dk_133 (dk_at dksX0_setAnimal_0 8 rfl rfl)
theorem dX0_setAnimal_9 : decode cX0_setAnimal 9 = .ok (.lastore, 1) := dk_80 (dk_at dksX0_setAnimal_0 9 rfl rfl)
theorem dX0_setAnimal_10 : decode cX0_setAnimal 10 = .ok (.goto 7, 3) := dk_167 0 7 (dk_at dksX0_setAnimal_0 10 rfl rfl)
theorem dX0_setAnimal_13 : decode cX0_setAnimal 13 = .ok (.astore 4, 2) := dk_58 4 (dk_at dksX0_setAnimal_0 13 rfl rfl)
theorem dX0_setAnimal_15 : decode cX0_setAnimal 15 = .ok (.iconst 1, 1) := dk_4 (dk_at dksX0_setAnimal_0 15 rfl rfl)
theorem dX0_setAnimal_16 : decode cX0_setAnimal 16 = .ok (.ireturn, 1) := dk_172 (dk_at dksX0_setAnimal_0 16 rfl rfl)
theorem dX0_setAnimal_17 : decode cX0_setAnimal 17 = .ok (.iconst 0, 1) := dk_3 (dk_at dksX0_setAnimal_0 17 rfl rfl)
theorem dX0_setAnimal_18 : decode cX0_setAnimal 18 = .ok (.ireturn, 1) := dk_172 (dk_at dksX0_setAnimal_0 18 rfl rfl)
abbrev cX0_findOver : ByteArray := method_26_code
def yX0_findOver : MethodName := ⟨RX0, "findOver", "(LFigureSurvey;III[J)I"⟩
def dkwX0_findOver_1 : List UInt8 := [58, 5, 6, 172, 3, 172]
abbrev dktX0_findOver_1 : List UInt8 := dkwX0_findOver_1 ++ []
def dkwX0_findOver_0 : List UInt8 := [25, 4, 3, 42, 27, 28, 29, 182, 0, 92, 133, 80, 167, 0, 15, 58, 5, 4, 172, 58, 5, 5, 172]
abbrev dktX0_findOver_0 : List UInt8 := dkwX0_findOver_0 ++ dktX0_findOver_1
theorem dksX0_findOver_0 : cX0_findOver.data.toList.drop 0 = dktX0_findOver_0 := by decide +kernel
theorem dksX0_findOver_1 : cX0_findOver.data.toList.drop 23 = dktX0_findOver_1 := dk_seg dksX0_findOver_0 23 rfl rfl
theorem dX0_findOver_0 : decode cX0_findOver 0 = .ok (.aload 4, 2) := dk_25 4 (dk_at dksX0_findOver_0 0 rfl rfl)
theorem dX0_findOver_2 : decode cX0_findOver 2 = .ok (.iconst 0, 1) := dk_3 (dk_at dksX0_findOver_0 2 rfl rfl)
theorem dX0_findOver_3 : decode cX0_findOver 3 = .ok (.aload_n 0, 1) := dk_42 (dk_at dksX0_findOver_0 3 rfl rfl)
theorem dX0_findOver_4 : decode cX0_findOver 4 = .ok (.iload_n 1, 1) := dk_27 (dk_at dksX0_findOver_0 4 rfl rfl)
theorem dX0_findOver_5 : decode cX0_findOver 5 = .ok (.iload_n 2, 1) := dk_28 (dk_at dksX0_findOver_0 5 rfl rfl)
theorem dX0_findOver_6 : decode cX0_findOver 6 = .ok (.iload_n 3, 1) := dk_29 (dk_at dksX0_findOver_0 6 rfl rfl)
theorem dX0_findOver_7 : decode cX0_findOver 7 = .ok (.invokevirtual 92, 3) := dk_182 0 92 (dk_at dksX0_findOver_0 7 rfl rfl)
theorem dX0_findOver_10 : decode cX0_findOver 10 = .ok (.i2l, 1) := dk_133 (dk_at dksX0_findOver_0 10 rfl rfl)
theorem dX0_findOver_11 : decode cX0_findOver 11 = .ok (.lastore, 1) := dk_80 (dk_at dksX0_findOver_0 11 rfl rfl)
theorem dX0_findOver_12 : decode cX0_findOver 12 = .ok (.goto 15, 3) := dk_167 0 15 (dk_at dksX0_findOver_0 12 rfl rfl)
theorem dX0_findOver_15 : decode cX0_findOver 15 = .ok (.astore 5, 2) := dk_58 5 (dk_at dksX0_findOver_0 15 rfl rfl)
theorem dX0_findOver_17 : decode cX0_findOver 17 = .ok (.iconst 1, 1) := dk_4 (dk_at dksX0_findOver_0 17 rfl rfl)
theorem dX0_findOver_18 : decode cX0_findOver 18 = .ok (.ireturn, 1) := dk_172 (dk_at dksX0_findOver_0 18 rfl rfl)
theorem dX0_findOver_19 : decode cX0_findOver 19 = .ok (.astore 5, 2) := dk_58 5 (dk_at dksX0_findOver_0 19 rfl rfl)
theorem dX0_findOver_21 : decode cX0_findOver 21 = .ok (.iconst 2, 1) := dk_5 (dk_at dksX0_findOver_0 21 rfl rfl)
theorem dX0_findOver_22 : decode cX0_findOver 22 = .ok (.ireturn, 1) := dk_172 (dk_at dksX0_findOver_0 22 rfl rfl)
theorem dX0_findOver_23 : decode cX0_findOver 23 = .ok (.astore 5, 2) := dk_58 5 (dk_at dksX0_findOver_1 0 rfl rfl)
theorem dX0_findOver_25 : decode cX0_findOver 25 = .ok (.iconst 3, 1) := dk_6 (dk_at dksX0_findOver_1 2 rfl rfl)
theorem dX0_findOver_26 : decode cX0_findOver 26 = .ok (.ireturn, 1) := dk_172 (dk_at dksX0_findOver_1 3 rfl rfl)
theorem dX0_findOver_27 : decode cX0_findOver 27 = .ok (.iconst 0, 1) := dk_3 (dk_at dksX0_findOver_1 4 rfl rfl)
theorem dX0_findOver_28 : decode cX0_findOver 28 = .ok (.ireturn, 1) := dk_172 (dk_at dksX0_findOver_1 5 rfl rfl)
abbrev cX0_findDate : ByteArray := method_27_code
def yX0_findDate : MethodName := ⟨RX0, "findDate", "(LFigureSurvey;IIII[J)I"⟩
def dkwX0_findDate_1 : List UInt8 := [172, 58, 6, 6, 172, 3, 172]
abbrev dktX0_findDate_1 : List UInt8 := dkwX0_findDate_1 ++ []
def dkwX0_findDate_0 : List UInt8 := [25, 5, 3, 42, 27, 28, 29, 21, 4, 182, 0, 95, 133, 80, 167, 0, 15, 58, 6, 4, 172, 58, 6, 5]
abbrev dktX0_findDate_0 : List UInt8 := dkwX0_findDate_0 ++ dktX0_findDate_1
theorem dksX0_findDate_0 : cX0_findDate.data.toList.drop 0 = dktX0_findDate_0 := by decide +kernel
theorem dksX0_findDate_1 : cX0_findDate.data.toList.drop 24 = dktX0_findDate_1 := dk_seg dksX0_findDate_0 24 rfl rfl
theorem dX0_findDate_0 : decode cX0_findDate 0 = .ok (.aload 5, 2) := dk_25 5 (dk_at dksX0_findDate_0 0 rfl rfl)
theorem dX0_findDate_2 : decode cX0_findDate 2 = .ok (.iconst 0, 1) := dk_3 (dk_at dksX0_findDate_0 2 rfl rfl)
theorem dX0_findDate_3 : decode cX0_findDate 3 = .ok (.aload_n 0, 1) := dk_42 (dk_at dksX0_findDate_0 3 rfl rfl)
theorem dX0_findDate_4 : decode cX0_findDate 4 = .ok (.iload_n 1, 1) := dk_27 (dk_at dksX0_findDate_0 4 rfl rfl)
theorem dX0_findDate_5 : decode cX0_findDate 5 = .ok (.iload_n 2, 1) := dk_28 (dk_at dksX0_findDate_0 5 rfl rfl)
theorem dX0_findDate_6 : decode cX0_findDate 6 = .ok (.iload_n 3, 1) := dk_29 (dk_at dksX0_findDate_0 6 rfl rfl)
theorem dX0_findDate_7 : decode cX0_findDate 7 = .ok (.iload 4, 2) := dk_21 4 (dk_at dksX0_findDate_0 7 rfl rfl)
theorem dX0_findDate_9 : decode cX0_findDate 9 = .ok (.invokevirtual 95, 3) := dk_182 0 95 (dk_at dksX0_findDate_0 9 rfl rfl)
theorem dX0_findDate_12 : decode cX0_findDate 12 = .ok (.i2l, 1) := dk_133 (dk_at dksX0_findDate_0 12 rfl rfl)
theorem dX0_findDate_13 : decode cX0_findDate 13 = .ok (.lastore, 1) := dk_80 (dk_at dksX0_findDate_0 13 rfl rfl)
theorem dX0_findDate_14 : decode cX0_findDate 14 = .ok (.goto 15, 3) := dk_167 0 15 (dk_at dksX0_findDate_0 14 rfl rfl)
theorem dX0_findDate_17 : decode cX0_findDate 17 = .ok (.astore 6, 2) := dk_58 6 (dk_at dksX0_findDate_0 17 rfl rfl)
theorem dX0_findDate_19 : decode cX0_findDate 19 = .ok (.iconst 1, 1) := dk_4 (dk_at dksX0_findDate_0 19 rfl rfl)
theorem dX0_findDate_20 : decode cX0_findDate 20 = .ok (.ireturn, 1) := dk_172 (dk_at dksX0_findDate_0 20 rfl rfl)
theorem dX0_findDate_21 : decode cX0_findDate 21 = .ok (.astore 6, 2) := dk_58 6 (dk_at dksX0_findDate_0 21 rfl rfl)
theorem dX0_findDate_23 : decode cX0_findDate 23 = .ok (.iconst 2, 1) := dk_5 (dk_at dksX0_findDate_0 23 rfl rfl)
theorem dX0_findDate_24 : decode cX0_findDate 24 = .ok (.ireturn, 1) := dk_172 (dk_at dksX0_findDate_1 0 rfl rfl)
theorem dX0_findDate_25 : decode cX0_findDate 25 = .ok (.astore 6, 2) := dk_58 6 (dk_at dksX0_findDate_1 1 rfl rfl)
theorem dX0_findDate_27 : decode cX0_findDate 27 = .ok (.iconst 3, 1) := dk_6 (dk_at dksX0_findDate_1 3 rfl rfl)
theorem dX0_findDate_28 : decode cX0_findDate 28 = .ok (.ireturn, 1) := dk_172 (dk_at dksX0_findDate_1 4 rfl rfl)
theorem dX0_findDate_29 : decode cX0_findDate 29 = .ok (.iconst 0, 1) := dk_3 (dk_at dksX0_findDate_1 5 rfl rfl)
theorem dX0_findDate_30 : decode cX0_findDate 30 = .ok (.ireturn, 1) := dk_172 (dk_at dksX0_findDate_1 6 rfl rfl)
abbrev cX0_remove : ByteArray := method_28_code
def yX0_remove : MethodName := ⟨RX0, "remove", "(LFigureSurvey;I[J)I"⟩
def dkwX0_remove_0 : List UInt8 := [44, 3, 42, 27, 182, 0, 99, 133, 80, 167, 0, 6, 78, 4, 172, 3, 172]
abbrev dktX0_remove_0 : List UInt8 := dkwX0_remove_0 ++ []
theorem dksX0_remove_0 : cX0_remove.data.toList.drop 0 = dktX0_remove_0 := by decide +kernel
theorem dX0_remove_0 : decode cX0_remove 0 = .ok (.aload_n 2, 1) := dk_44 (dk_at dksX0_remove_0 0 rfl rfl)
theorem dX0_remove_1 : decode cX0_remove 1 = .ok (.iconst 0, 1) := dk_3 (dk_at dksX0_remove_0 1 rfl rfl)
theorem dX0_remove_2 : decode cX0_remove 2 = .ok (.aload_n 0, 1) := dk_42 (dk_at dksX0_remove_0 2 rfl rfl)
theorem dX0_remove_3 : decode cX0_remove 3 = .ok (.iload_n 1, 1) := dk_27 (dk_at dksX0_remove_0 3 rfl rfl)
theorem dX0_remove_4 : decode cX0_remove 4 = .ok (.invokevirtual 99, 3) := dk_182 0 99 (dk_at dksX0_remove_0 4 rfl rfl)
theorem dX0_remove_7 : decode cX0_remove 7 = .ok (.i2l, 1) := dk_133 (dk_at dksX0_remove_0 7 rfl rfl)
theorem dX0_remove_8 : decode cX0_remove 8 = .ok (.lastore, 1) := dk_80 (dk_at dksX0_remove_0 8 rfl rfl)
theorem dX0_remove_9 : decode cX0_remove 9 = .ok (.goto 6, 3) := dk_167 0 6 (dk_at dksX0_remove_0 9 rfl rfl)
theorem dX0_remove_12 : decode cX0_remove 12 = .ok (.astore_n 3, 1) := dk_78 (dk_at dksX0_remove_0 12 rfl rfl)
theorem dX0_remove_13 : decode cX0_remove 13 = .ok (.iconst 1, 1) := dk_4 (dk_at dksX0_remove_0 13 rfl rfl)
theorem dX0_remove_14 : decode cX0_remove 14 = .ok (.ireturn, 1) := dk_172 (dk_at dksX0_remove_0 14 rfl rfl)
theorem dX0_remove_15 : decode cX0_remove 15 = .ok (.iconst 0, 1) := dk_3 (dk_at dksX0_remove_0 15 rfl rfl)
theorem dX0_remove_16 : decode cX0_remove 16 = .ok (.ireturn, 1) := dk_172 (dk_at dksX0_remove_0 16 rfl rfl)
abbrev cX0_standOf : ByteArray := method_29_code
def yX0_standOf : MethodName := ⟨RX0, "standOf", "(LFigureSurvey;I[J)I"⟩
def dkwX0_standOf_0 : List UInt8 := [44, 3, 42, 27, 182, 0, 102, 133, 80, 167, 0, 6, 78, 4, 172, 3, 172]
abbrev dktX0_standOf_0 : List UInt8 := dkwX0_standOf_0 ++ []
theorem dksX0_standOf_0 : cX0_standOf.data.toList.drop 0 = dktX0_standOf_0 := by decide +kernel
theorem dX0_standOf_0 : decode cX0_standOf 0 = .ok (.aload_n 2, 1) := dk_44 (dk_at dksX0_standOf_0 0 rfl rfl)
theorem dX0_standOf_1 : decode cX0_standOf 1 = .ok (.iconst 0, 1) := dk_3 (dk_at dksX0_standOf_0 1 rfl rfl)
theorem dX0_standOf_2 : decode cX0_standOf 2 = .ok (.aload_n 0, 1) := dk_42 (dk_at dksX0_standOf_0 2 rfl rfl)
theorem dX0_standOf_3 : decode cX0_standOf 3 = .ok (.iload_n 1, 1) := dk_27 (dk_at dksX0_standOf_0 3 rfl rfl)
theorem dX0_standOf_4 : decode cX0_standOf 4 = .ok (.invokevirtual 102, 3) := dk_182 0 102 (dk_at dksX0_standOf_0 4 rfl rfl)
theorem dX0_standOf_7 : decode cX0_standOf 7 = .ok (.i2l, 1) := dk_133 (dk_at dksX0_standOf_0 7 rfl rfl)
theorem dX0_standOf_8 : decode cX0_standOf 8 = .ok (.lastore, 1) := dk_80 (dk_at dksX0_standOf_0 8 rfl rfl)
theorem dX0_standOf_9 : decode cX0_standOf 9 = .ok (.goto 6, 3) := dk_167 0 6 (dk_at dksX0_standOf_0 9 rfl rfl)
theorem dX0_standOf_12 : decode cX0_standOf 12 = .ok (.astore_n 3, 1) := dk_78 (dk_at dksX0_standOf_0 12 rfl rfl)
theorem dX0_standOf_13 : decode cX0_standOf 13 = .ok (.iconst 1, 1) := dk_4 (dk_at dksX0_standOf_0 13 rfl rfl)
theorem dX0_standOf_14 : decode cX0_standOf 14 = .ok (.ireturn, 1) := dk_172 (dk_at dksX0_standOf_0 14 rfl rfl)
theorem dX0_standOf_15 : decode cX0_standOf 15 = .ok (.iconst 0, 1) := dk_3 (dk_at dksX0_standOf_0 15 rfl rfl)
theorem dX0_standOf_16 : decode cX0_standOf 16 = .ok (.ireturn, 1) := dk_172 (dk_at dksX0_standOf_0 16 rfl rfl)
abbrev cX0_orderAt : ByteArray := method_30_code
def yX0_orderAt : MethodName := ⟨RX0, "orderAt", "(LFigureSurvey;II[J)I"⟩
def dkwX0_orderAt_0 : List UInt8 := [45, 3, 42, 27, 28, 182, 0, 105, 133, 80, 167, 0, 7, 58, 4, 4, 172, 3, 172]
abbrev dktX0_orderAt_0 : List UInt8 := dkwX0_orderAt_0 ++ []
theorem dksX0_orderAt_0 : cX0_orderAt.data.toList.drop 0 = dktX0_orderAt_0 := by decide +kernel
theorem dX0_orderAt_0 : decode cX0_orderAt 0 = .ok (.aload_n 3, 1) := dk_45 (dk_at dksX0_orderAt_0 0 rfl rfl)
theorem dX0_orderAt_1 : decode cX0_orderAt 1 = .ok (.iconst 0, 1) := dk_3 (dk_at dksX0_orderAt_0 1 rfl rfl)
theorem dX0_orderAt_2 : decode cX0_orderAt 2 = .ok (.aload_n 0, 1) := dk_42 (dk_at dksX0_orderAt_0 2 rfl rfl)
theorem dX0_orderAt_3 : decode cX0_orderAt 3 = .ok (.iload_n 1, 1) := dk_27 (dk_at dksX0_orderAt_0 3 rfl rfl)
theorem dX0_orderAt_4 : decode cX0_orderAt 4 = .ok (.iload_n 2, 1) := dk_28 (dk_at dksX0_orderAt_0 4 rfl rfl)
theorem dX0_orderAt_5 : decode cX0_orderAt 5 = .ok (.invokevirtual 105, 3) := dk_182 0 105 (dk_at dksX0_orderAt_0 5 rfl rfl)
theorem dX0_orderAt_8 : decode cX0_orderAt 8 = .ok (.i2l, 1) := dk_133 (dk_at dksX0_orderAt_0 8 rfl rfl)
theorem dX0_orderAt_9 : decode cX0_orderAt 9 = .ok (.lastore, 1) := dk_80 (dk_at dksX0_orderAt_0 9 rfl rfl)
theorem dX0_orderAt_10 : decode cX0_orderAt 10 = .ok (.goto 7, 3) := dk_167 0 7 (dk_at dksX0_orderAt_0 10 rfl rfl)
theorem dX0_orderAt_13 : decode cX0_orderAt 13 = .ok (.astore 4, 2) := dk_58 4 (dk_at dksX0_orderAt_0 13 rfl rfl)
theorem dX0_orderAt_15 : decode cX0_orderAt 15 = .ok (.iconst 1, 1) := dk_4 (dk_at dksX0_orderAt_0 15 rfl rfl)
theorem dX0_orderAt_16 : decode cX0_orderAt 16 = .ok (.ireturn, 1) := dk_172 (dk_at dksX0_orderAt_0 16 rfl rfl)
theorem dX0_orderAt_17 : decode cX0_orderAt 17 = .ok (.iconst 0, 1) := dk_3 (dk_at dksX0_orderAt_0 17 rfl rfl)
theorem dX0_orderAt_18 : decode cX0_orderAt 18 = .ok (.ireturn, 1) := dk_172 (dk_at dksX0_orderAt_0 18 rfl rfl)
abbrev cX0_brokenWeight : ByteArray := method_31_code
def yX0_brokenWeight : MethodName := ⟨RX0, "brokenWeight", "(LFigureSurvey;I[J)I"⟩
def dkwX0_brokenWeight_0 : List UInt8 := [44, 3, 42, 27, 182, 0, 108, 133, 80, 167, 0, 6, 78, 4, 172, 3, 172]
abbrev dktX0_brokenWeight_0 : List UInt8 := dkwX0_brokenWeight_0 ++ []
theorem dksX0_brokenWeight_0 : cX0_brokenWeight.data.toList.drop 0 = dktX0_brokenWeight_0 := by decide +kernel
theorem dX0_brokenWeight_0 : decode cX0_brokenWeight 0 = .ok (.aload_n 2, 1) := dk_44 (dk_at dksX0_brokenWeight_0 0 rfl rfl)
theorem dX0_brokenWeight_1 : decode cX0_brokenWeight 1 = .ok (.iconst 0, 1) := dk_3 (dk_at dksX0_brokenWeight_0 1 rfl rfl)
theorem dX0_brokenWeight_2 : decode cX0_brokenWeight 2 = .ok (.aload_n 0, 1) := dk_42 (dk_at dksX0_brokenWeight_0 2 rfl rfl)
theorem dX0_brokenWeight_3 : decode cX0_brokenWeight 3 = .ok (.iload_n 1, 1) := dk_27 (dk_at dksX0_brokenWeight_0 3 rfl rfl)
theorem dX0_brokenWeight_4 : decode cX0_brokenWeight 4 = .ok (.invokevirtual 108, 3) := dk_182 0 108 (dk_at dksX0_brokenWeight_0 4 rfl rfl)
theorem dX0_brokenWeight_7 : decode cX0_brokenWeight 7 = .ok (.i2l, 1) := dk_133 (dk_at dksX0_brokenWeight_0 7 rfl rfl)
theorem dX0_brokenWeight_8 : decode cX0_brokenWeight 8 = .ok (.lastore, 1) := dk_80 (dk_at dksX0_brokenWeight_0 8 rfl rfl)
theorem dX0_brokenWeight_9 : decode cX0_brokenWeight 9 = .ok (.goto 6, 3) := dk_167 0 6 (dk_at dksX0_brokenWeight_0 9 rfl rfl)
theorem dX0_brokenWeight_12 : decode cX0_brokenWeight 12 = .ok (.astore_n 3, 1) := dk_78 (dk_at dksX0_brokenWeight_0 12 rfl rfl)
theorem dX0_brokenWeight_13 : decode cX0_brokenWeight 13 = .ok (.iconst 1, 1) := dk_4 (dk_at dksX0_brokenWeight_0 13 rfl rfl)
theorem dX0_brokenWeight_14 : decode cX0_brokenWeight 14 = .ok (.ireturn, 1) := dk_172 (dk_at dksX0_brokenWeight_0 14 rfl rfl)
theorem dX0_brokenWeight_15 : decode cX0_brokenWeight 15 = .ok (.iconst 0, 1) := dk_3 (dk_at dksX0_brokenWeight_0 15 rfl rfl)
theorem dX0_brokenWeight_16 : decode cX0_brokenWeight 16 = .ok (.ireturn, 1) := dk_172 (dk_at dksX0_brokenWeight_0 16 rfl rfl)
abbrev cX0_isAbove : ByteArray := method_32_code
def yX0_isAbove : MethodName := ⟨RX0, "isAbove", "(LFigureSurvey;II[J)I"⟩
def dkwX0_isAbove_1 : List UInt8 := [3, 172]
abbrev dktX0_isAbove_1 : List UInt8 := dkwX0_isAbove_1 ++ []
def dkwX0_isAbove_0 : List UInt8 := [45, 3, 42, 27, 28, 182, 0, 111, 153, 0, 7, 10, 167, 0, 4, 9, 80, 167, 0, 7, 58, 4, 4, 172]
abbrev dktX0_isAbove_0 : List UInt8 := dkwX0_isAbove_0 ++ dktX0_isAbove_1
theorem dksX0_isAbove_0 : cX0_isAbove.data.toList.drop 0 = dktX0_isAbove_0 := by decide +kernel
theorem dksX0_isAbove_1 : cX0_isAbove.data.toList.drop 24 = dktX0_isAbove_1 := dk_seg dksX0_isAbove_0 24 rfl rfl
theorem dX0_isAbove_0 : decode cX0_isAbove 0 = .ok (.aload_n 3, 1) := dk_45 (dk_at dksX0_isAbove_0 0 rfl rfl)
theorem dX0_isAbove_1 : decode cX0_isAbove 1 = .ok (.iconst 0, 1) := dk_3 (dk_at dksX0_isAbove_0 1 rfl rfl)
theorem dX0_isAbove_2 : decode cX0_isAbove 2 = .ok (.aload_n 0, 1) := dk_42 (dk_at dksX0_isAbove_0 2 rfl rfl)
theorem dX0_isAbove_3 : decode cX0_isAbove 3 = .ok (.iload_n 1, 1) := dk_27 (dk_at dksX0_isAbove_0 3 rfl rfl)
theorem dX0_isAbove_4 : decode cX0_isAbove 4 = .ok (.iload_n 2, 1) := dk_28 (dk_at dksX0_isAbove_0 4 rfl rfl)
theorem dX0_isAbove_5 : decode cX0_isAbove 5 = .ok (.invokevirtual 111, 3) := dk_182 0 111 (dk_at dksX0_isAbove_0 5 rfl rfl)
theorem dX0_isAbove_8 : decode cX0_isAbove 8 = .ok (.ifCond .eq 7, 3) := dk_153 0 7 (dk_at dksX0_isAbove_0 8 rfl rfl)
theorem dX0_isAbove_11 : decode cX0_isAbove 11 = .ok (.lconst 1, 1) := dk_10 (dk_at dksX0_isAbove_0 11 rfl rfl)
theorem dX0_isAbove_12 : decode cX0_isAbove 12 = .ok (.goto 4, 3) := dk_167 0 4 (dk_at dksX0_isAbove_0 12 rfl rfl)
theorem dX0_isAbove_15 : decode cX0_isAbove 15 = .ok (.lconst 0, 1) := dk_9 (dk_at dksX0_isAbove_0 15 rfl rfl)
theorem dX0_isAbove_16 : decode cX0_isAbove 16 = .ok (.lastore, 1) := dk_80 (dk_at dksX0_isAbove_0 16 rfl rfl)
theorem dX0_isAbove_17 : decode cX0_isAbove 17 = .ok (.goto 7, 3) := dk_167 0 7 (dk_at dksX0_isAbove_0 17 rfl rfl)
theorem dX0_isAbove_20 : decode cX0_isAbove 20 = .ok (.astore 4, 2) := dk_58 4 (dk_at dksX0_isAbove_0 20 rfl rfl)
theorem dX0_isAbove_22 : decode cX0_isAbove 22 = .ok (.iconst 1, 1) := dk_4 (dk_at dksX0_isAbove_0 22 rfl rfl)
theorem dX0_isAbove_23 : decode cX0_isAbove 23 = .ok (.ireturn, 1) := dk_172 (dk_at dksX0_isAbove_0 23 rfl rfl)
theorem dX0_isAbove_24 : decode cX0_isAbove 24 = .ok (.iconst 0, 1) := dk_3 (dk_at dksX0_isAbove_1 0 rfl rfl)
theorem dX0_isAbove_25 : decode cX0_isAbove 25 = .ok (.ireturn, 1) := dk_172 (dk_at dksX0_isAbove_1 1 rfl rfl)
abbrev cX0_earliest : ByteArray := method_33_code
def yX0_earliest : MethodName := ⟨RX0, "earliest", "(LFigureSurvey;I[J)I"⟩
def dkwX0_earliest_0 : List UInt8 := [44, 3, 42, 27, 182, 0, 115, 133, 80, 167, 0, 6, 78, 4, 172, 3, 172]
abbrev dktX0_earliest_0 : List UInt8 := dkwX0_earliest_0 ++ []
theorem dksX0_earliest_0 : cX0_earliest.data.toList.drop 0 = dktX0_earliest_0 := by decide +kernel
theorem dX0_earliest_0 : decode cX0_earliest 0 = .ok (.aload_n 2, 1) := dk_44 (dk_at dksX0_earliest_0 0 rfl rfl)
theorem dX0_earliest_1 : decode cX0_earliest 1 = .ok (.iconst 0, 1) := dk_3 (dk_at dksX0_earliest_0 1 rfl rfl)
theorem dX0_earliest_2 : decode cX0_earliest 2 = .ok (.aload_n 0, 1) := dk_42 (dk_at dksX0_earliest_0 2 rfl rfl)
theorem dX0_earliest_3 : decode cX0_earliest 3 = .ok (.iload_n 1, 1) := dk_27 (dk_at dksX0_earliest_0 3 rfl rfl)
theorem dX0_earliest_4 : decode cX0_earliest 4 = .ok (.invokevirtual 115, 3) := dk_182 0 115 (dk_at dksX0_earliest_0 4 rfl rfl)
theorem dX0_earliest_7 : decode cX0_earliest 7 = .ok (.i2l, 1) := dk_133 (dk_at dksX0_earliest_0 7 rfl rfl)
theorem dX0_earliest_8 : decode cX0_earliest 8 = .ok (.lastore, 1) := dk_80 (dk_at dksX0_earliest_0 8 rfl rfl)
theorem dX0_earliest_9 : decode cX0_earliest 9 = .ok (.goto 6, 3) := dk_167 0 6 (dk_at dksX0_earliest_0 9 rfl rfl)
theorem dX0_earliest_12 : decode cX0_earliest 12 = .ok (.astore_n 3, 1) := dk_78 (dk_at dksX0_earliest_0 12 rfl rfl)
theorem dX0_earliest_13 : decode cX0_earliest 13 = .ok (.iconst 1, 1) := dk_4 (dk_at dksX0_earliest_0 13 rfl rfl)
theorem dX0_earliest_14 : decode cX0_earliest 14 = .ok (.ireturn, 1) := dk_172 (dk_at dksX0_earliest_0 14 rfl rfl)
theorem dX0_earliest_15 : decode cX0_earliest 15 = .ok (.iconst 0, 1) := dk_3 (dk_at dksX0_earliest_0 15 rfl rfl)
theorem dX0_earliest_16 : decode cX0_earliest 16 = .ok (.ireturn, 1) := dk_172 (dk_at dksX0_earliest_0 16 rfl rfl)
abbrev cX0_latest : ByteArray := method_34_code
def yX0_latest : MethodName := ⟨RX0, "latest", "(LFigureSurvey;I[J)I"⟩
def dkwX0_latest_0 : List UInt8 := [44, 3, 42, 27, 182, 0, 118, 133, 80, 167, 0, 6, 78, 4, 172, 3, 172]
abbrev dktX0_latest_0 : List UInt8 := dkwX0_latest_0 ++ []
theorem dksX0_latest_0 : cX0_latest.data.toList.drop 0 = dktX0_latest_0 := by decide +kernel
theorem dX0_latest_0 : decode cX0_latest 0 = .ok (.aload_n 2, 1) := dk_44 (dk_at dksX0_latest_0 0 rfl rfl)
theorem dX0_latest_1 : decode cX0_latest 1 = .ok (.iconst 0, 1) := dk_3 (dk_at dksX0_latest_0 1 rfl rfl)
theorem dX0_latest_2 : decode cX0_latest 2 = .ok (.aload_n 0, 1) := dk_42 (dk_at dksX0_latest_0 2 rfl rfl)
theorem dX0_latest_3 : decode cX0_latest 3 = .ok (.iload_n 1, 1) := dk_27 (dk_at dksX0_latest_0 3 rfl rfl)
theorem dX0_latest_4 : decode cX0_latest 4 = .ok (.invokevirtual 118, 3) := dk_182 0 118 (dk_at dksX0_latest_0 4 rfl rfl)
theorem dX0_latest_7 : decode cX0_latest 7 = .ok (.i2l, 1) := dk_133 (dk_at dksX0_latest_0 7 rfl rfl)
theorem dX0_latest_8 : decode cX0_latest 8 = .ok (.lastore, 1) := dk_80 (dk_at dksX0_latest_0 8 rfl rfl)
theorem dX0_latest_9 : decode cX0_latest 9 = .ok (.goto 6, 3) := dk_167 0 6 (dk_at dksX0_latest_0 9 rfl rfl)
theorem dX0_latest_12 : decode cX0_latest 12 = .ok (.astore_n 3, 1) := dk_78 (dk_at dksX0_latest_0 12 rfl rfl)
theorem dX0_latest_13 : decode cX0_latest 13 = .ok (.iconst 1, 1) := dk_4 (dk_at dksX0_latest_0 13 rfl rfl)
theorem dX0_latest_14 : decode cX0_latest 14 = .ok (.ireturn, 1) := dk_172 (dk_at dksX0_latest_0 14 rfl rfl)
theorem dX0_latest_15 : decode cX0_latest 15 = .ok (.iconst 0, 1) := dk_3 (dk_at dksX0_latest_0 15 rfl rfl)
theorem dX0_latest_16 : decode cX0_latest 16 = .ok (.ireturn, 1) := dk_172 (dk_at dksX0_latest_0 16 rfl rfl)
abbrev cX0_reasonFor : ByteArray := method_35_code
def yX0_reasonFor : MethodName := ⟨RX0, "reasonFor", "(LFigureSurvey;IZ[J)I"⟩
def dkwX0_reasonFor_0 : List UInt8 := [45, 3, 42, 27, 28, 182, 0, 121, 133, 80, 167, 0, 7, 58, 4, 4, 172, 3, 172]
abbrev dktX0_reasonFor_0 : List UInt8 := dkwX0_reasonFor_0 ++ []
theorem dksX0_reasonFor_0 : cX0_reasonFor.data.toList.drop 0 = dktX0_reasonFor_0 := by decide +kernel
theorem dX0_reasonFor_0 : decode cX0_reasonFor 0 = .ok (.aload_n 3, 1) := dk_45 (dk_at dksX0_reasonFor_0 0 rfl rfl)
theorem dX0_reasonFor_1 : decode cX0_reasonFor 1 = .ok (.iconst 0, 1) := dk_3 (dk_at dksX0_reasonFor_0 1 rfl rfl)
theorem dX0_reasonFor_2 : decode cX0_reasonFor 2 = .ok (.aload_n 0, 1) := dk_42 (dk_at dksX0_reasonFor_0 2 rfl rfl)
theorem dX0_reasonFor_3 : decode cX0_reasonFor 3 = .ok (.iload_n 1, 1) := dk_27 (dk_at dksX0_reasonFor_0 3 rfl rfl)
theorem dX0_reasonFor_4 : decode cX0_reasonFor 4 = .ok (.iload_n 2, 1) := dk_28 (dk_at dksX0_reasonFor_0 4 rfl rfl)
theorem dX0_reasonFor_5 : decode cX0_reasonFor 5 = .ok (.invokevirtual 121, 3) := dk_182 0 121 (dk_at dksX0_reasonFor_0 5 rfl rfl)
theorem dX0_reasonFor_8 : decode cX0_reasonFor 8 = .ok (.i2l, 1) := dk_133 (dk_at dksX0_reasonFor_0 8 rfl rfl)
theorem dX0_reasonFor_9 : decode cX0_reasonFor 9 = .ok (.lastore, 1) := dk_80 (dk_at dksX0_reasonFor_0 9 rfl rfl)
theorem dX0_reasonFor_10 : decode cX0_reasonFor 10 = .ok (.goto 7, 3) := dk_167 0 7 (dk_at dksX0_reasonFor_0 10 rfl rfl)
theorem dX0_reasonFor_13 : decode cX0_reasonFor 13 = .ok (.astore 4, 2) := dk_58 4 (dk_at dksX0_reasonFor_0 13 rfl rfl)
theorem dX0_reasonFor_15 : decode cX0_reasonFor 15 = .ok (.iconst 1, 1) := dk_4 (dk_at dksX0_reasonFor_0 15 rfl rfl)
theorem dX0_reasonFor_16 : decode cX0_reasonFor 16 = .ok (.ireturn, 1) := dk_172 (dk_at dksX0_reasonFor_0 16 rfl rfl)
theorem dX0_reasonFor_17 : decode cX0_reasonFor 17 = .ok (.iconst 0, 1) := dk_3 (dk_at dksX0_reasonFor_0 17 rfl rfl)
theorem dX0_reasonFor_18 : decode cX0_reasonFor 18 = .ok (.ireturn, 1) := dk_172 (dk_at dksX0_reasonFor_0 18 rfl rfl)
abbrev cX0_setFeatures : ByteArray := method_36_code
def yX0_setFeatures : MethodName := ⟨RX0, "setFeatures", "(LFigureSurvey;II[J)I"⟩
def dkwX0_setFeatures_0 : List UInt8 := [45, 3, 42, 27, 28, 182, 0, 125, 133, 80, 167, 0, 11, 58, 4, 4, 172, 58, 4, 5, 172, 3, 172]
abbrev dktX0_setFeatures_0 : List UInt8 := dkwX0_setFeatures_0 ++ []
theorem dksX0_setFeatures_0 : cX0_setFeatures.data.toList.drop 0 = dktX0_setFeatures_0 := by decide +kernel
theorem dX0_setFeatures_0 : decode cX0_setFeatures 0 = .ok (.aload_n 3, 1) := dk_45 (dk_at dksX0_setFeatures_0 0 rfl rfl)
theorem dX0_setFeatures_1 : decode cX0_setFeatures 1 = .ok (.iconst 0, 1) := dk_3 (dk_at dksX0_setFeatures_0 1 rfl rfl)
theorem dX0_setFeatures_2 : decode cX0_setFeatures 2 = .ok (.aload_n 0, 1) := dk_42 (dk_at dksX0_setFeatures_0 2 rfl rfl)
theorem dX0_setFeatures_3 : decode cX0_setFeatures 3 = .ok (.iload_n 1, 1) := dk_27 (dk_at dksX0_setFeatures_0 3 rfl rfl)
theorem dX0_setFeatures_4 : decode cX0_setFeatures 4 = .ok (.iload_n 2, 1) := dk_28 (dk_at dksX0_setFeatures_0 4 rfl rfl)
theorem dX0_setFeatures_5 : decode cX0_setFeatures 5 = .ok (.invokevirtual 125, 3) := dk_182 0 125 (dk_at dksX0_setFeatures_0 5 rfl rfl)
theorem dX0_setFeatures_8 : decode cX0_setFeatures 8 = .ok (.i2l, 1) := dk_133 (dk_at dksX0_setFeatures_0 8 rfl rfl)
theorem dX0_setFeatures_9 : decode cX0_setFeatures 9 = .ok (.lastore, 1) := dk_80 (dk_at dksX0_setFeatures_0 9 rfl rfl)
theorem dX0_setFeatures_10 : decode cX0_setFeatures 10 = .ok (.goto 11, 3) := dk_167 0 11 (dk_at dksX0_setFeatures_0 10 rfl rfl)
theorem dX0_setFeatures_13 : decode cX0_setFeatures 13 = .ok (.astore 4, 2) := dk_58 4 (dk_at dksX0_setFeatures_0 13 rfl rfl)
theorem dX0_setFeatures_15 : decode cX0_setFeatures 15 = .ok (.iconst 1, 1) := dk_4 (dk_at dksX0_setFeatures_0 15 rfl rfl)
theorem dX0_setFeatures_16 : decode cX0_setFeatures 16 = .ok (.ireturn, 1) := dk_172 (dk_at dksX0_setFeatures_0 16 rfl rfl)
theorem dX0_setFeatures_17 : decode cX0_setFeatures 17 = .ok (.astore 4, 2) := dk_58 4 (dk_at dksX0_setFeatures_0 17 rfl rfl)
theorem dX0_setFeatures_19 : decode cX0_setFeatures 19 = .ok (.iconst 2, 1) := dk_5 (dk_at dksX0_setFeatures_0 19 rfl rfl)
theorem dX0_setFeatures_20 : decode cX0_setFeatures 20 = .ok (.ireturn, 1) := dk_172 (dk_at dksX0_setFeatures_0 20 rfl rfl)
theorem dX0_setFeatures_21 : decode cX0_setFeatures 21 = .ok (.iconst 0, 1) := dk_3 (dk_at dksX0_setFeatures_0 21 rfl rfl)
theorem dX0_setFeatures_22 : decode cX0_setFeatures 22 = .ok (.ireturn, 1) := dk_172 (dk_at dksX0_setFeatures_0 22 rfl rfl)
abbrev cX0_addStyle : ByteArray := method_37_code
def yX0_addStyle : MethodName := ⟨RX0, "addStyle", "(LFigureSurvey;I[J)I"⟩
def dkwX0_addStyle_0 : List UInt8 := [44, 3, 42, 27, 182, 0, 128, 133, 80, 167, 0, 9, 78, 4, 172, 78, 5, 172, 3, 172]
abbrev dktX0_addStyle_0 : List UInt8 := dkwX0_addStyle_0 ++ []
theorem dksX0_addStyle_0 : cX0_addStyle.data.toList.drop 0 = dktX0_addStyle_0 := by decide +kernel
theorem dX0_addStyle_0 : decode cX0_addStyle 0 = .ok (.aload_n 2, 1) := dk_44 (dk_at dksX0_addStyle_0 0 rfl rfl)
theorem dX0_addStyle_1 : decode cX0_addStyle 1 = .ok (.iconst 0, 1) := dk_3 (dk_at dksX0_addStyle_0 1 rfl rfl)
theorem dX0_addStyle_2 : decode cX0_addStyle 2 = .ok (.aload_n 0, 1) := dk_42 (dk_at dksX0_addStyle_0 2 rfl rfl)
theorem dX0_addStyle_3 : decode cX0_addStyle 3 = .ok (.iload_n 1, 1) := dk_27 (dk_at dksX0_addStyle_0 3 rfl rfl)
theorem dX0_addStyle_4 : decode cX0_addStyle 4 = .ok (.invokevirtual 128, 3) := dk_182 0 128 (dk_at dksX0_addStyle_0 4 rfl rfl)
theorem dX0_addStyle_7 : decode cX0_addStyle 7 = .ok (.i2l, 1) := dk_133 (dk_at dksX0_addStyle_0 7 rfl rfl)
theorem dX0_addStyle_8 : decode cX0_addStyle 8 = .ok (.lastore, 1) := dk_80 (dk_at dksX0_addStyle_0 8 rfl rfl)
theorem dX0_addStyle_9 : decode cX0_addStyle 9 = .ok (.goto 9, 3) := dk_167 0 9 (dk_at dksX0_addStyle_0 9 rfl rfl)
theorem dX0_addStyle_12 : decode cX0_addStyle 12 = .ok (.astore_n 3, 1) := dk_78 (dk_at dksX0_addStyle_0 12 rfl rfl)
theorem dX0_addStyle_13 : decode cX0_addStyle 13 = .ok (.iconst 1, 1) := dk_4 (dk_at dksX0_addStyle_0 13 rfl rfl)
theorem dX0_addStyle_14 : decode cX0_addStyle 14 = .ok (.ireturn, 1) := dk_172 (dk_at dksX0_addStyle_0 14 rfl rfl)
theorem dX0_addStyle_15 : decode cX0_addStyle 15 = .ok (.astore_n 3, 1) := dk_78 (dk_at dksX0_addStyle_0 15 rfl rfl)
theorem dX0_addStyle_16 : decode cX0_addStyle 16 = .ok (.iconst 2, 1) := dk_5 (dk_at dksX0_addStyle_0 16 rfl rfl)
theorem dX0_addStyle_17 : decode cX0_addStyle 17 = .ok (.ireturn, 1) := dk_172 (dk_at dksX0_addStyle_0 17 rfl rfl)
theorem dX0_addStyle_18 : decode cX0_addStyle 18 = .ok (.iconst 0, 1) := dk_3 (dk_at dksX0_addStyle_0 18 rfl rfl)
theorem dX0_addStyle_19 : decode cX0_addStyle 19 = .ok (.ireturn, 1) := dk_172 (dk_at dksX0_addStyle_0 19 rfl rfl)
abbrev cX0_styleOf : ByteArray := method_38_code
def yX0_styleOf : MethodName := ⟨RX0, "styleOf", "(LFigureSurvey;I[J)I"⟩
def dkwX0_styleOf_0 : List UInt8 := [44, 3, 42, 27, 182, 0, 131, 133, 80, 167, 0, 6, 78, 4, 172, 3, 172]
abbrev dktX0_styleOf_0 : List UInt8 := dkwX0_styleOf_0 ++ []
theorem dksX0_styleOf_0 : cX0_styleOf.data.toList.drop 0 = dktX0_styleOf_0 := by decide +kernel
theorem dX0_styleOf_0 : decode cX0_styleOf 0 = .ok (.aload_n 2, 1) := dk_44 (dk_at dksX0_styleOf_0 0 rfl rfl)
theorem dX0_styleOf_1 : decode cX0_styleOf 1 = .ok (.iconst 0, 1) := dk_3 (dk_at dksX0_styleOf_0 1 rfl rfl)
theorem dX0_styleOf_2 : decode cX0_styleOf 2 = .ok (.aload_n 0, 1) := dk_42 (dk_at dksX0_styleOf_0 2 rfl rfl)
theorem dX0_styleOf_3 : decode cX0_styleOf 3 = .ok (.iload_n 1, 1) := dk_27 (dk_at dksX0_styleOf_0 3 rfl rfl)
theorem dX0_styleOf_4 : decode cX0_styleOf 4 = .ok (.invokevirtual 131, 3) := dk_182 0 131 (dk_at dksX0_styleOf_0 4 rfl rfl)
theorem dX0_styleOf_7 : decode cX0_styleOf 7 = .ok (.i2l, 1) := dk_133 (dk_at dksX0_styleOf_0 7 rfl rfl)
theorem dX0_styleOf_8 : decode cX0_styleOf 8 = .ok (.lastore, 1) := dk_80 (dk_at dksX0_styleOf_0 8 rfl rfl)
theorem dX0_styleOf_9 : decode cX0_styleOf 9 = .ok (.goto 6, 3) := dk_167 0 6 (dk_at dksX0_styleOf_0 9 rfl rfl)
theorem dX0_styleOf_12 : decode cX0_styleOf 12 = .ok (.astore_n 3, 1) := dk_78 (dk_at dksX0_styleOf_0 12 rfl rfl)
theorem dX0_styleOf_13 : decode cX0_styleOf 13 = .ok (.iconst 1, 1) := dk_4 (dk_at dksX0_styleOf_0 13 rfl rfl)
theorem dX0_styleOf_14 : decode cX0_styleOf 14 = .ok (.ireturn, 1) := dk_172 (dk_at dksX0_styleOf_0 14 rfl rfl)
theorem dX0_styleOf_15 : decode cX0_styleOf 15 = .ok (.iconst 0, 1) := dk_3 (dk_at dksX0_styleOf_0 15 rfl rfl)
theorem dX0_styleOf_16 : decode cX0_styleOf 16 = .ok (.ireturn, 1) := dk_172 (dk_at dksX0_styleOf_0 16 rfl rfl)
abbrev cX0_addEntry : ByteArray := method_39_code
def yX0_addEntry : MethodName := ⟨RX0, "addEntry", "(LFigureSurvey;II[J)I"⟩
def dkwX0_addEntry_1 : List UInt8 := [172, 3, 172]
abbrev dktX0_addEntry_1 : List UInt8 := dkwX0_addEntry_1 ++ []
def dkwX0_addEntry_0 : List UInt8 := [45, 3, 42, 27, 28, 182, 0, 134, 133, 80, 167, 0, 15, 58, 4, 4, 172, 58, 4, 5, 172, 58, 4, 6]
abbrev dktX0_addEntry_0 : List UInt8 := dkwX0_addEntry_0 ++ dktX0_addEntry_1
theorem dksX0_addEntry_0 : cX0_addEntry.data.toList.drop 0 = dktX0_addEntry_0 := by decide +kernel
theorem dksX0_addEntry_1 : cX0_addEntry.data.toList.drop 24 = dktX0_addEntry_1 := dk_seg dksX0_addEntry_0 24 rfl rfl
theorem dX0_addEntry_0 : decode cX0_addEntry 0 = .ok (.aload_n 3, 1) := dk_45 (dk_at dksX0_addEntry_0 0 rfl rfl)
theorem dX0_addEntry_1 : decode cX0_addEntry 1 = .ok (.iconst 0, 1) := dk_3 (dk_at dksX0_addEntry_0 1 rfl rfl)
theorem dX0_addEntry_2 : decode cX0_addEntry 2 = .ok (.aload_n 0, 1) := dk_42 (dk_at dksX0_addEntry_0 2 rfl rfl)
theorem dX0_addEntry_3 : decode cX0_addEntry 3 = .ok (.iload_n 1, 1) := dk_27 (dk_at dksX0_addEntry_0 3 rfl rfl)
theorem dX0_addEntry_4 : decode cX0_addEntry 4 = .ok (.iload_n 2, 1) := dk_28 (dk_at dksX0_addEntry_0 4 rfl rfl)
theorem dX0_addEntry_5 : decode cX0_addEntry 5 = .ok (.invokevirtual 134, 3) := dk_182 0 134 (dk_at dksX0_addEntry_0 5 rfl rfl)
theorem dX0_addEntry_8 : decode cX0_addEntry 8 = .ok (.i2l, 1) := dk_133 (dk_at dksX0_addEntry_0 8 rfl rfl)
theorem dX0_addEntry_9 : decode cX0_addEntry 9 = .ok (.lastore, 1) := dk_80 (dk_at dksX0_addEntry_0 9 rfl rfl)
theorem dX0_addEntry_10 : decode cX0_addEntry 10 = .ok (.goto 15, 3) := dk_167 0 15 (dk_at dksX0_addEntry_0 10 rfl rfl)
theorem dX0_addEntry_13 : decode cX0_addEntry 13 = .ok (.astore 4, 2) := dk_58 4 (dk_at dksX0_addEntry_0 13 rfl rfl)
theorem dX0_addEntry_15 : decode cX0_addEntry 15 = .ok (.iconst 1, 1) := dk_4 (dk_at dksX0_addEntry_0 15 rfl rfl)
theorem dX0_addEntry_16 : decode cX0_addEntry 16 = .ok (.ireturn, 1) := dk_172 (dk_at dksX0_addEntry_0 16 rfl rfl)
theorem dX0_addEntry_17 : decode cX0_addEntry 17 = .ok (.astore 4, 2) := dk_58 4 (dk_at dksX0_addEntry_0 17 rfl rfl)
theorem dX0_addEntry_19 : decode cX0_addEntry 19 = .ok (.iconst 2, 1) := dk_5 (dk_at dksX0_addEntry_0 19 rfl rfl)
theorem dX0_addEntry_20 : decode cX0_addEntry 20 = .ok (.ireturn, 1) := dk_172 (dk_at dksX0_addEntry_0 20 rfl rfl)
theorem dX0_addEntry_21 : decode cX0_addEntry 21 = .ok (.astore 4, 2) := dk_58 4 (dk_at dksX0_addEntry_0 21 rfl rfl)
theorem dX0_addEntry_23 : decode cX0_addEntry 23 = .ok (.iconst 3, 1) := dk_6 (dk_at dksX0_addEntry_0 23 rfl rfl)
theorem dX0_addEntry_24 : decode cX0_addEntry 24 = .ok (.ireturn, 1) := dk_172 (dk_at dksX0_addEntry_1 0 rfl rfl)
theorem dX0_addEntry_25 : decode cX0_addEntry 25 = .ok (.iconst 0, 1) := dk_3 (dk_at dksX0_addEntry_1 1 rfl rfl)
theorem dX0_addEntry_26 : decode cX0_addEntry 26 = .ok (.ireturn, 1) := dk_172 (dk_at dksX0_addEntry_1 2 rfl rfl)
abbrev cX0_figureFor : ByteArray := method_40_code
def yX0_figureFor : MethodName := ⟨RX0, "figureFor", "(LFigureSurvey;I[J)I"⟩
def dkwX0_figureFor_0 : List UInt8 := [44, 3, 42, 27, 182, 0, 137, 133, 80, 167, 0, 6, 78, 4, 172, 3, 172]
abbrev dktX0_figureFor_0 : List UInt8 := dkwX0_figureFor_0 ++ []
theorem dksX0_figureFor_0 : cX0_figureFor.data.toList.drop 0 = dktX0_figureFor_0 := by decide +kernel
theorem dX0_figureFor_0 : decode cX0_figureFor 0 = .ok (.aload_n 2, 1) := dk_44 (dk_at dksX0_figureFor_0 0 rfl rfl)
theorem dX0_figureFor_1 : decode cX0_figureFor 1 = .ok (.iconst 0, 1) := dk_3 (dk_at dksX0_figureFor_0 1 rfl rfl)
theorem dX0_figureFor_2 : decode cX0_figureFor 2 = .ok (.aload_n 0, 1) := dk_42 (dk_at dksX0_figureFor_0 2 rfl rfl)
theorem dX0_figureFor_3 : decode cX0_figureFor 3 = .ok (.iload_n 1, 1) := dk_27 (dk_at dksX0_figureFor_0 3 rfl rfl)
theorem dX0_figureFor_4 : decode cX0_figureFor 4 = .ok (.invokevirtual 137, 3) := dk_182 0 137 (dk_at dksX0_figureFor_0 4 rfl rfl)
theorem dX0_figureFor_7 : decode cX0_figureFor 7 = .ok (.i2l, 1) := dk_133 (dk_at dksX0_figureFor_0 7 rfl rfl)
theorem dX0_figureFor_8 : decode cX0_figureFor 8 = .ok (.lastore, 1) := dk_80 (dk_at dksX0_figureFor_0 8 rfl rfl)
theorem dX0_figureFor_9 : decode cX0_figureFor 9 = .ok (.goto 6, 3) := dk_167 0 6 (dk_at dksX0_figureFor_0 9 rfl rfl)
theorem dX0_figureFor_12 : decode cX0_figureFor 12 = .ok (.astore_n 3, 1) := dk_78 (dk_at dksX0_figureFor_0 12 rfl rfl)
theorem dX0_figureFor_13 : decode cX0_figureFor 13 = .ok (.iconst 1, 1) := dk_4 (dk_at dksX0_figureFor_0 13 rfl rfl)
theorem dX0_figureFor_14 : decode cX0_figureFor 14 = .ok (.ireturn, 1) := dk_172 (dk_at dksX0_figureFor_0 14 rfl rfl)
theorem dX0_figureFor_15 : decode cX0_figureFor 15 = .ok (.iconst 0, 1) := dk_3 (dk_at dksX0_figureFor_0 15 rfl rfl)
theorem dX0_figureFor_16 : decode cX0_figureFor 16 = .ok (.ireturn, 1) := dk_172 (dk_at dksX0_figureFor_0 16 rfl rfl)
abbrev cX0_tellName : ByteArray := method_41_code
def yX0_tellName : MethodName := ⟨RX0, "tellName", "(LFigureSurvey;IIII[J)I"⟩
def dkwX0_tellName_1 : List UInt8 := [172, 58, 6, 6, 172, 3, 172]
abbrev dktX0_tellName_1 : List UInt8 := dkwX0_tellName_1 ++ []
def dkwX0_tellName_0 : List UInt8 := [25, 5, 3, 42, 27, 28, 29, 21, 4, 182, 0, 140, 133, 80, 167, 0, 15, 58, 6, 4, 172, 58, 6, 5]
abbrev dktX0_tellName_0 : List UInt8 := dkwX0_tellName_0 ++ dktX0_tellName_1
theorem dksX0_tellName_0 : cX0_tellName.data.toList.drop 0 = dktX0_tellName_0 := by decide +kernel
theorem dksX0_tellName_1 : cX0_tellName.data.toList.drop 24 = dktX0_tellName_1 := dk_seg dksX0_tellName_0 24 rfl rfl
theorem dX0_tellName_0 : decode cX0_tellName 0 = .ok (.aload 5, 2) := dk_25 5 (dk_at dksX0_tellName_0 0 rfl rfl)
theorem dX0_tellName_2 : decode cX0_tellName 2 = .ok (.iconst 0, 1) := dk_3 (dk_at dksX0_tellName_0 2 rfl rfl)
theorem dX0_tellName_3 : decode cX0_tellName 3 = .ok (.aload_n 0, 1) := dk_42 (dk_at dksX0_tellName_0 3 rfl rfl)
theorem dX0_tellName_4 : decode cX0_tellName 4 = .ok (.iload_n 1, 1) := dk_27 (dk_at dksX0_tellName_0 4 rfl rfl)
theorem dX0_tellName_5 : decode cX0_tellName 5 = .ok (.iload_n 2, 1) := dk_28 (dk_at dksX0_tellName_0 5 rfl rfl)
theorem dX0_tellName_6 : decode cX0_tellName 6 = .ok (.iload_n 3, 1) := dk_29 (dk_at dksX0_tellName_0 6 rfl rfl)
theorem dX0_tellName_7 : decode cX0_tellName 7 = .ok (.iload 4, 2) := dk_21 4 (dk_at dksX0_tellName_0 7 rfl rfl)
theorem dX0_tellName_9 : decode cX0_tellName 9 = .ok (.invokevirtual 140, 3) := dk_182 0 140 (dk_at dksX0_tellName_0 9 rfl rfl)
theorem dX0_tellName_12 : decode cX0_tellName 12 = .ok (.i2l, 1) := dk_133 (dk_at dksX0_tellName_0 12 rfl rfl)
theorem dX0_tellName_13 : decode cX0_tellName 13 = .ok (.lastore, 1) := dk_80 (dk_at dksX0_tellName_0 13 rfl rfl)
theorem dX0_tellName_14 : decode cX0_tellName 14 = .ok (.goto 15, 3) := dk_167 0 15 (dk_at dksX0_tellName_0 14 rfl rfl)
theorem dX0_tellName_17 : decode cX0_tellName 17 = .ok (.astore 6, 2) := dk_58 6 (dk_at dksX0_tellName_0 17 rfl rfl)
theorem dX0_tellName_19 : decode cX0_tellName 19 = .ok (.iconst 1, 1) := dk_4 (dk_at dksX0_tellName_0 19 rfl rfl)
theorem dX0_tellName_20 : decode cX0_tellName 20 = .ok (.ireturn, 1) := dk_172 (dk_at dksX0_tellName_0 20 rfl rfl)
theorem dX0_tellName_21 : decode cX0_tellName 21 = .ok (.astore 6, 2) := dk_58 6 (dk_at dksX0_tellName_0 21 rfl rfl)
theorem dX0_tellName_23 : decode cX0_tellName 23 = .ok (.iconst 2, 1) := dk_5 (dk_at dksX0_tellName_0 23 rfl rfl)
theorem dX0_tellName_24 : decode cX0_tellName 24 = .ok (.ireturn, 1) := dk_172 (dk_at dksX0_tellName_1 0 rfl rfl)
theorem dX0_tellName_25 : decode cX0_tellName 25 = .ok (.astore 6, 2) := dk_58 6 (dk_at dksX0_tellName_1 1 rfl rfl)
theorem dX0_tellName_27 : decode cX0_tellName 27 = .ok (.iconst 3, 1) := dk_6 (dk_at dksX0_tellName_1 3 rfl rfl)
theorem dX0_tellName_28 : decode cX0_tellName 28 = .ok (.ireturn, 1) := dk_172 (dk_at dksX0_tellName_1 4 rfl rfl)
theorem dX0_tellName_29 : decode cX0_tellName 29 = .ok (.iconst 0, 1) := dk_3 (dk_at dksX0_tellName_1 5 rfl rfl)
theorem dX0_tellName_30 : decode cX0_tellName 30 = .ok (.ireturn, 1) := dk_172 (dk_at dksX0_tellName_1 6 rfl rfl)
abbrev cX0_nameFor : ByteArray := method_42_code
def yX0_nameFor : MethodName := ⟨RX0, "nameFor", "(LFigureSurvey;III[J)I"⟩
def dkwX0_nameFor_1 : List UInt8 := [172]
abbrev dktX0_nameFor_1 : List UInt8 := dkwX0_nameFor_1 ++ []
def dkwX0_nameFor_0 : List UInt8 := [25, 4, 3, 42, 27, 28, 29, 182, 0, 143, 133, 80, 167, 0, 11, 58, 5, 4, 172, 58, 5, 5, 172, 3]
abbrev dktX0_nameFor_0 : List UInt8 := dkwX0_nameFor_0 ++ dktX0_nameFor_1
theorem dksX0_nameFor_0 : cX0_nameFor.data.toList.drop 0 = dktX0_nameFor_0 := by decide +kernel
theorem dksX0_nameFor_1 : cX0_nameFor.data.toList.drop 24 = dktX0_nameFor_1 := dk_seg dksX0_nameFor_0 24 rfl rfl
theorem dX0_nameFor_0 : decode cX0_nameFor 0 = .ok (.aload 4, 2) := dk_25 4 (dk_at dksX0_nameFor_0 0 rfl rfl)
theorem dX0_nameFor_2 : decode cX0_nameFor 2 = .ok (.iconst 0, 1) := dk_3 (dk_at dksX0_nameFor_0 2 rfl rfl)
theorem dX0_nameFor_3 : decode cX0_nameFor 3 = .ok (.aload_n 0, 1) := dk_42 (dk_at dksX0_nameFor_0 3 rfl rfl)
theorem dX0_nameFor_4 : decode cX0_nameFor 4 = .ok (.iload_n 1, 1) := dk_27 (dk_at dksX0_nameFor_0 4 rfl rfl)
theorem dX0_nameFor_5 : decode cX0_nameFor 5 = .ok (.iload_n 2, 1) := dk_28 (dk_at dksX0_nameFor_0 5 rfl rfl)
theorem dX0_nameFor_6 : decode cX0_nameFor 6 = .ok (.iload_n 3, 1) := dk_29 (dk_at dksX0_nameFor_0 6 rfl rfl)
theorem dX0_nameFor_7 : decode cX0_nameFor 7 = .ok (.invokevirtual 143, 3) := dk_182 0 143 (dk_at dksX0_nameFor_0 7 rfl rfl)
theorem dX0_nameFor_10 : decode cX0_nameFor 10 = .ok (.i2l, 1) := dk_133 (dk_at dksX0_nameFor_0 10 rfl rfl)
theorem dX0_nameFor_11 : decode cX0_nameFor 11 = .ok (.lastore, 1) := dk_80 (dk_at dksX0_nameFor_0 11 rfl rfl)
theorem dX0_nameFor_12 : decode cX0_nameFor 12 = .ok (.goto 11, 3) := dk_167 0 11 (dk_at dksX0_nameFor_0 12 rfl rfl)
theorem dX0_nameFor_15 : decode cX0_nameFor 15 = .ok (.astore 5, 2) := dk_58 5 (dk_at dksX0_nameFor_0 15 rfl rfl)
theorem dX0_nameFor_17 : decode cX0_nameFor 17 = .ok (.iconst 1, 1) := dk_4 (dk_at dksX0_nameFor_0 17 rfl rfl)
theorem dX0_nameFor_18 : decode cX0_nameFor 18 = .ok (.ireturn, 1) := dk_172 (dk_at dksX0_nameFor_0 18 rfl rfl)
theorem dX0_nameFor_19 : decode cX0_nameFor 19 = .ok (.astore 5, 2) := dk_58 5 (dk_at dksX0_nameFor_0 19 rfl rfl)
theorem dX0_nameFor_21 : decode cX0_nameFor 21 = .ok (.iconst 2, 1) := dk_5 (dk_at dksX0_nameFor_0 21 rfl rfl)
theorem dX0_nameFor_22 : decode cX0_nameFor 22 = .ok (.ireturn, 1) := dk_172 (dk_at dksX0_nameFor_0 22 rfl rfl)
theorem dX0_nameFor_23 : decode cX0_nameFor 23 = .ok (.iconst 0, 1) := dk_3 (dk_at dksX0_nameFor_0 23 rfl rfl)
theorem dX0_nameFor_24 : decode cX0_nameFor 24 = .ok (.ireturn, 1) := dk_172 (dk_at dksX0_nameFor_1 0 rfl rfl)
abbrev cX0_setRight : ByteArray := method_43_code
def yX0_setRight : MethodName := ⟨RX0, "setRight", "(LFigureSurvey;IIZ[J)I"⟩
def dkwX0_setRight_1 : List UInt8 := [4, 172, 58, 5, 5, 172, 3, 172]
abbrev dktX0_setRight_1 : List UInt8 := dkwX0_setRight_1 ++ []
def dkwX0_setRight_0 : List UInt8 := [25, 4, 3, 42, 27, 28, 29, 182, 0, 146, 153, 0, 7, 10, 167, 0, 4, 9, 80, 167, 0, 11, 58, 5]
abbrev dktX0_setRight_0 : List UInt8 := dkwX0_setRight_0 ++ dktX0_setRight_1
theorem dksX0_setRight_0 : cX0_setRight.data.toList.drop 0 = dktX0_setRight_0 := by decide +kernel
theorem dksX0_setRight_1 : cX0_setRight.data.toList.drop 24 = dktX0_setRight_1 := dk_seg dksX0_setRight_0 24 rfl rfl
theorem dX0_setRight_0 : decode cX0_setRight 0 = .ok (.aload 4, 2) := dk_25 4 (dk_at dksX0_setRight_0 0 rfl rfl)
theorem dX0_setRight_2 : decode cX0_setRight 2 = .ok (.iconst 0, 1) := dk_3 (dk_at dksX0_setRight_0 2 rfl rfl)
theorem dX0_setRight_3 : decode cX0_setRight 3 = .ok (.aload_n 0, 1) := dk_42 (dk_at dksX0_setRight_0 3 rfl rfl)
theorem dX0_setRight_4 : decode cX0_setRight 4 = .ok (.iload_n 1, 1) := dk_27 (dk_at dksX0_setRight_0 4 rfl rfl)
theorem dX0_setRight_5 : decode cX0_setRight 5 = .ok (.iload_n 2, 1) := dk_28 (dk_at dksX0_setRight_0 5 rfl rfl)
theorem dX0_setRight_6 : decode cX0_setRight 6 = .ok (.iload_n 3, 1) := dk_29 (dk_at dksX0_setRight_0 6 rfl rfl)
theorem dX0_setRight_7 : decode cX0_setRight 7 = .ok (.invokevirtual 146, 3) := dk_182 0 146 (dk_at dksX0_setRight_0 7 rfl rfl)
theorem dX0_setRight_10 : decode cX0_setRight 10 = .ok (.ifCond .eq 7, 3) := dk_153 0 7 (dk_at dksX0_setRight_0 10 rfl rfl)
theorem dX0_setRight_13 : decode cX0_setRight 13 = .ok (.lconst 1, 1) := dk_10 (dk_at dksX0_setRight_0 13 rfl rfl)
theorem dX0_setRight_14 : decode cX0_setRight 14 = .ok (.goto 4, 3) := dk_167 0 4 (dk_at dksX0_setRight_0 14 rfl rfl)
theorem dX0_setRight_17 : decode cX0_setRight 17 = .ok (.lconst 0, 1) := dk_9 (dk_at dksX0_setRight_0 17 rfl rfl)
theorem dX0_setRight_18 : decode cX0_setRight 18 = .ok (.lastore, 1) := dk_80 (dk_at dksX0_setRight_0 18 rfl rfl)
theorem dX0_setRight_19 : decode cX0_setRight 19 = .ok (.goto 11, 3) := dk_167 0 11 (dk_at dksX0_setRight_0 19 rfl rfl)
theorem dX0_setRight_22 : decode cX0_setRight 22 = .ok (.astore 5, 2) := dk_58 5 (dk_at dksX0_setRight_0 22 rfl rfl)
theorem dX0_setRight_24 : decode cX0_setRight 24 = .ok (.iconst 1, 1) := dk_4 (dk_at dksX0_setRight_1 0 rfl rfl)
theorem dX0_setRight_25 : decode cX0_setRight 25 = .ok (.ireturn, 1) := dk_172 (dk_at dksX0_setRight_1 1 rfl rfl)
theorem dX0_setRight_26 : decode cX0_setRight 26 = .ok (.astore 5, 2) := dk_58 5 (dk_at dksX0_setRight_1 2 rfl rfl)
theorem dX0_setRight_28 : decode cX0_setRight 28 = .ok (.iconst 2, 1) := dk_5 (dk_at dksX0_setRight_1 4 rfl rfl)
theorem dX0_setRight_29 : decode cX0_setRight 29 = .ok (.ireturn, 1) := dk_172 (dk_at dksX0_setRight_1 5 rfl rfl)
theorem dX0_setRight_30 : decode cX0_setRight 30 = .ok (.iconst 0, 1) := dk_3 (dk_at dksX0_setRight_1 6 rfl rfl)
theorem dX0_setRight_31 : decode cX0_setRight 31 = .ok (.ireturn, 1) := dk_172 (dk_at dksX0_setRight_1 7 rfl rfl)
abbrev cX0_repaint : ByteArray := method_44_code
def yX0_repaint : MethodName := ⟨RX0, "repaint", "(LFigureSurvey;II[J)I"⟩
def dkwX0_repaint_1 : List UInt8 := [172, 3, 172]
abbrev dktX0_repaint_1 : List UInt8 := dkwX0_repaint_1 ++ []
def dkwX0_repaint_0 : List UInt8 := [45, 3, 42, 27, 28, 182, 0, 150, 133, 80, 167, 0, 15, 58, 4, 4, 172, 58, 4, 5, 172, 58, 4, 6]
abbrev dktX0_repaint_0 : List UInt8 := dkwX0_repaint_0 ++ dktX0_repaint_1
theorem dksX0_repaint_0 : cX0_repaint.data.toList.drop 0 = dktX0_repaint_0 := by decide +kernel
theorem dksX0_repaint_1 : cX0_repaint.data.toList.drop 24 = dktX0_repaint_1 := dk_seg dksX0_repaint_0 24 rfl rfl
theorem dX0_repaint_0 : decode cX0_repaint 0 = .ok (.aload_n 3, 1) := dk_45 (dk_at dksX0_repaint_0 0 rfl rfl)
theorem dX0_repaint_1 : decode cX0_repaint 1 = .ok (.iconst 0, 1) := dk_3 (dk_at dksX0_repaint_0 1 rfl rfl)
theorem dX0_repaint_2 : decode cX0_repaint 2 = .ok (.aload_n 0, 1) := dk_42 (dk_at dksX0_repaint_0 2 rfl rfl)
theorem dX0_repaint_3 : decode cX0_repaint 3 = .ok (.iload_n 1, 1) := dk_27 (dk_at dksX0_repaint_0 3 rfl rfl)
theorem dX0_repaint_4 : decode cX0_repaint 4 = .ok (.iload_n 2, 1) := dk_28 (dk_at dksX0_repaint_0 4 rfl rfl)
theorem dX0_repaint_5 : decode cX0_repaint 5 = .ok (.invokevirtual 150, 3) := dk_182 0 150 (dk_at dksX0_repaint_0 5 rfl rfl)
theorem dX0_repaint_8 : decode cX0_repaint 8 = .ok (.i2l, 1) := dk_133 (dk_at dksX0_repaint_0 8 rfl rfl)
theorem dX0_repaint_9 : decode cX0_repaint 9 = .ok (.lastore, 1) := dk_80 (dk_at dksX0_repaint_0 9 rfl rfl)
theorem dX0_repaint_10 : decode cX0_repaint 10 = .ok (.goto 15, 3) := dk_167 0 15 (dk_at dksX0_repaint_0 10 rfl rfl)
theorem dX0_repaint_13 : decode cX0_repaint 13 = .ok (.astore 4, 2) := dk_58 4 (dk_at dksX0_repaint_0 13 rfl rfl)
theorem dX0_repaint_15 : decode cX0_repaint 15 = .ok (.iconst 1, 1) := dk_4 (dk_at dksX0_repaint_0 15 rfl rfl)
theorem dX0_repaint_16 : decode cX0_repaint 16 = .ok (.ireturn, 1) := dk_172 (dk_at dksX0_repaint_0 16 rfl rfl)
theorem dX0_repaint_17 : decode cX0_repaint 17 = .ok (.astore 4, 2) := dk_58 4 (dk_at dksX0_repaint_0 17 rfl rfl)
theorem dX0_repaint_19 : decode cX0_repaint 19 = .ok (.iconst 2, 1) := dk_5 (dk_at dksX0_repaint_0 19 rfl rfl)
theorem dX0_repaint_20 : decode cX0_repaint 20 = .ok (.ireturn, 1) := dk_172 (dk_at dksX0_repaint_0 20 rfl rfl)
theorem dX0_repaint_21 : decode cX0_repaint 21 = .ok (.astore 4, 2) := dk_58 4 (dk_at dksX0_repaint_0 21 rfl rfl)
theorem dX0_repaint_23 : decode cX0_repaint 23 = .ok (.iconst 3, 1) := dk_6 (dk_at dksX0_repaint_0 23 rfl rfl)
theorem dX0_repaint_24 : decode cX0_repaint 24 = .ok (.ireturn, 1) := dk_172 (dk_at dksX0_repaint_1 0 rfl rfl)
theorem dX0_repaint_25 : decode cX0_repaint 25 = .ok (.iconst 0, 1) := dk_3 (dk_at dksX0_repaint_1 1 rfl rfl)
theorem dX0_repaint_26 : decode cX0_repaint 26 = .ok (.ireturn, 1) := dk_172 (dk_at dksX0_repaint_1 2 rfl rfl)
abbrev cX0_passYears : ByteArray := method_45_code
def yX0_passYears : MethodName := ⟨RX0, "passYears", "(LFigureSurvey;I[J)I"⟩
def dkwX0_passYears_0 : List UInt8 := [44, 3, 42, 27, 182, 0, 153, 133, 80, 167, 0, 9, 78, 4, 172, 78, 5, 172, 3, 172]
abbrev dktX0_passYears_0 : List UInt8 := dkwX0_passYears_0 ++ []
theorem dksX0_passYears_0 : cX0_passYears.data.toList.drop 0 = dktX0_passYears_0 := by decide +kernel
theorem dX0_passYears_0 : decode cX0_passYears 0 = .ok (.aload_n 2, 1) := dk_44 (dk_at dksX0_passYears_0 0 rfl rfl)
theorem dX0_passYears_1 : decode cX0_passYears 1 = .ok (.iconst 0, 1) := dk_3 (dk_at dksX0_passYears_0 1 rfl rfl)
theorem dX0_passYears_2 : decode cX0_passYears 2 = .ok (.aload_n 0, 1) := dk_42 (dk_at dksX0_passYears_0 2 rfl rfl)
theorem dX0_passYears_3 : decode cX0_passYears 3 = .ok (.iload_n 1, 1) := dk_27 (dk_at dksX0_passYears_0 3 rfl rfl)
theorem dX0_passYears_4 : decode cX0_passYears 4 = .ok (.invokevirtual 153, 3) := dk_182 0 153 (dk_at dksX0_passYears_0 4 rfl rfl)
theorem dX0_passYears_7 : decode cX0_passYears 7 = .ok (.i2l, 1) := dk_133 (dk_at dksX0_passYears_0 7 rfl rfl)
theorem dX0_passYears_8 : decode cX0_passYears 8 = .ok (.lastore, 1) := dk_80 (dk_at dksX0_passYears_0 8 rfl rfl)
theorem dX0_passYears_9 : decode cX0_passYears 9 = .ok (.goto 9, 3) := dk_167 0 9 (dk_at dksX0_passYears_0 9 rfl rfl)
theorem dX0_passYears_12 : decode cX0_passYears 12 = .ok (.astore_n 3, 1) := dk_78 (dk_at dksX0_passYears_0 12 rfl rfl)
theorem dX0_passYears_13 : decode cX0_passYears 13 = .ok (.iconst 1, 1) := dk_4 (dk_at dksX0_passYears_0 13 rfl rfl)
theorem dX0_passYears_14 : decode cX0_passYears 14 = .ok (.ireturn, 1) := dk_172 (dk_at dksX0_passYears_0 14 rfl rfl)
theorem dX0_passYears_15 : decode cX0_passYears 15 = .ok (.astore_n 3, 1) := dk_78 (dk_at dksX0_passYears_0 15 rfl rfl)
theorem dX0_passYears_16 : decode cX0_passYears 16 = .ok (.iconst 2, 1) := dk_5 (dk_at dksX0_passYears_0 16 rfl rfl)
theorem dX0_passYears_17 : decode cX0_passYears 17 = .ok (.ireturn, 1) := dk_172 (dk_at dksX0_passYears_0 17 rfl rfl)
theorem dX0_passYears_18 : decode cX0_passYears 18 = .ok (.iconst 0, 1) := dk_3 (dk_at dksX0_passYears_0 18 rfl rfl)
theorem dX0_passYears_19 : decode cX0_passYears 19 = .ok (.ireturn, 1) := dk_172 (dk_at dksX0_passYears_0 19 rfl rfl)
abbrev cX0_setDecay : ByteArray := method_46_code
def yX0_setDecay : MethodName := ⟨RX0, "setDecay", "(LFigureSurvey;IIII[J)I"⟩
def dkwX0_setDecay_1 : List UInt8 := [172, 3, 172]
abbrev dktX0_setDecay_1 : List UInt8 := dkwX0_setDecay_1 ++ []
def dkwX0_setDecay_0 : List UInt8 := [25, 5, 3, 42, 27, 28, 29, 21, 4, 182, 0, 156, 133, 80, 167, 0, 11, 58, 6, 4, 172, 58, 6, 5]
abbrev dktX0_setDecay_0 : List UInt8 := dkwX0_setDecay_0 ++ dktX0_setDecay_1
theorem dksX0_setDecay_0 : cX0_setDecay.data.toList.drop 0 = dktX0_setDecay_0 := by decide +kernel
theorem dksX0_setDecay_1 : cX0_setDecay.data.toList.drop 24 = dktX0_setDecay_1 := dk_seg dksX0_setDecay_0 24 rfl rfl
theorem dX0_setDecay_0 : decode cX0_setDecay 0 = .ok (.aload 5, 2) := dk_25 5 (dk_at dksX0_setDecay_0 0 rfl rfl)
theorem dX0_setDecay_2 : decode cX0_setDecay 2 = .ok (.iconst 0, 1) := dk_3 (dk_at dksX0_setDecay_0 2 rfl rfl)
theorem dX0_setDecay_3 : decode cX0_setDecay 3 = .ok (.aload_n 0, 1) := dk_42 (dk_at dksX0_setDecay_0 3 rfl rfl)
theorem dX0_setDecay_4 : decode cX0_setDecay 4 = .ok (.iload_n 1, 1) := dk_27 (dk_at dksX0_setDecay_0 4 rfl rfl)
theorem dX0_setDecay_5 : decode cX0_setDecay 5 = .ok (.iload_n 2, 1) := dk_28 (dk_at dksX0_setDecay_0 5 rfl rfl)
theorem dX0_setDecay_6 : decode cX0_setDecay 6 = .ok (.iload_n 3, 1) := dk_29 (dk_at dksX0_setDecay_0 6 rfl rfl)
theorem dX0_setDecay_7 : decode cX0_setDecay 7 = .ok (.iload 4, 2) := dk_21 4 (dk_at dksX0_setDecay_0 7 rfl rfl)
theorem dX0_setDecay_9 : decode cX0_setDecay 9 = .ok (.invokevirtual 156, 3) := dk_182 0 156 (dk_at dksX0_setDecay_0 9 rfl rfl)
theorem dX0_setDecay_12 : decode cX0_setDecay 12 = .ok (.i2l, 1) := dk_133 (dk_at dksX0_setDecay_0 12 rfl rfl)
theorem dX0_setDecay_13 : decode cX0_setDecay 13 = .ok (.lastore, 1) := dk_80 (dk_at dksX0_setDecay_0 13 rfl rfl)
theorem dX0_setDecay_14 : decode cX0_setDecay 14 = .ok (.goto 11, 3) := dk_167 0 11 (dk_at dksX0_setDecay_0 14 rfl rfl)
theorem dX0_setDecay_17 : decode cX0_setDecay 17 = .ok (.astore 6, 2) := dk_58 6 (dk_at dksX0_setDecay_0 17 rfl rfl)
theorem dX0_setDecay_19 : decode cX0_setDecay 19 = .ok (.iconst 1, 1) := dk_4 (dk_at dksX0_setDecay_0 19 rfl rfl)
theorem dX0_setDecay_20 : decode cX0_setDecay 20 = .ok (.ireturn, 1) := dk_172 (dk_at dksX0_setDecay_0 20 rfl rfl)
theorem dX0_setDecay_21 : decode cX0_setDecay 21 = .ok (.astore 6, 2) := dk_58 6 (dk_at dksX0_setDecay_0 21 rfl rfl)
theorem dX0_setDecay_23 : decode cX0_setDecay 23 = .ok (.iconst 2, 1) := dk_5 (dk_at dksX0_setDecay_0 23 rfl rfl)
theorem dX0_setDecay_24 : decode cX0_setDecay 24 = .ok (.ireturn, 1) := dk_172 (dk_at dksX0_setDecay_1 0 rfl rfl)
theorem dX0_setDecay_25 : decode cX0_setDecay 25 = .ok (.iconst 0, 1) := dk_3 (dk_at dksX0_setDecay_1 1 rfl rfl)
theorem dX0_setDecay_26 : decode cX0_setDecay 26 = .ok (.ireturn, 1) := dk_172 (dk_at dksX0_setDecay_1 2 rfl rfl)
abbrev cX0_healthOf : ByteArray := method_47_code
def yX0_healthOf : MethodName := ⟨RX0, "healthOf", "(LFigureSurvey;I[J)I"⟩
def dkwX0_healthOf_0 : List UInt8 := [44, 3, 42, 27, 182, 0, 159, 133, 80, 167, 0, 6, 78, 4, 172, 3, 172]
abbrev dktX0_healthOf_0 : List UInt8 := dkwX0_healthOf_0 ++ []
theorem dksX0_healthOf_0 : cX0_healthOf.data.toList.drop 0 = dktX0_healthOf_0 := by decide +kernel
theorem dX0_healthOf_0 : decode cX0_healthOf 0 = .ok (.aload_n 2, 1) := dk_44 (dk_at dksX0_healthOf_0 0 rfl rfl)
theorem dX0_healthOf_1 : decode cX0_healthOf 1 = .ok (.iconst 0, 1) := dk_3 (dk_at dksX0_healthOf_0 1 rfl rfl)
theorem dX0_healthOf_2 : decode cX0_healthOf 2 = .ok (.aload_n 0, 1) := dk_42 (dk_at dksX0_healthOf_0 2 rfl rfl)
theorem dX0_healthOf_3 : decode cX0_healthOf 3 = .ok (.iload_n 1, 1) := dk_27 (dk_at dksX0_healthOf_0 3 rfl rfl)
theorem dX0_healthOf_4 : decode cX0_healthOf 4 = .ok (.invokevirtual 159, 3) := dk_182 0 159 (dk_at dksX0_healthOf_0 4 rfl rfl)
theorem dX0_healthOf_7 : decode cX0_healthOf 7 = .ok (.i2l, 1) := dk_133 (dk_at dksX0_healthOf_0 7 rfl rfl)
theorem dX0_healthOf_8 : decode cX0_healthOf 8 = .ok (.lastore, 1) := dk_80 (dk_at dksX0_healthOf_0 8 rfl rfl)
theorem dX0_healthOf_9 : decode cX0_healthOf 9 = .ok (.goto 6, 3) := dk_167 0 6 (dk_at dksX0_healthOf_0 9 rfl rfl)
theorem dX0_healthOf_12 : decode cX0_healthOf 12 = .ok (.astore_n 3, 1) := dk_78 (dk_at dksX0_healthOf_0 12 rfl rfl)
theorem dX0_healthOf_13 : decode cX0_healthOf 13 = .ok (.iconst 1, 1) := dk_4 (dk_at dksX0_healthOf_0 13 rfl rfl)
theorem dX0_healthOf_14 : decode cX0_healthOf 14 = .ok (.ireturn, 1) := dk_172 (dk_at dksX0_healthOf_0 14 rfl rfl)
theorem dX0_healthOf_15 : decode cX0_healthOf 15 = .ok (.iconst 0, 1) := dk_3 (dk_at dksX0_healthOf_0 15 rfl rfl)
theorem dX0_healthOf_16 : decode cX0_healthOf 16 = .ok (.ireturn, 1) := dk_172 (dk_at dksX0_healthOf_0 16 rfl rfl)
abbrev cX0_addWork : ByteArray := method_48_code
def yX0_addWork : MethodName := ⟨RX0, "addWork", "(LFigureSurvey;III[J)I"⟩
def dkwX0_addWork_1 : List UInt8 := [58, 5, 6, 172, 3, 172]
abbrev dktX0_addWork_1 : List UInt8 := dkwX0_addWork_1 ++ []
def dkwX0_addWork_0 : List UInt8 := [25, 4, 3, 42, 27, 28, 29, 182, 0, 162, 133, 80, 167, 0, 15, 58, 5, 4, 172, 58, 5, 5, 172]
abbrev dktX0_addWork_0 : List UInt8 := dkwX0_addWork_0 ++ dktX0_addWork_1
theorem dksX0_addWork_0 : cX0_addWork.data.toList.drop 0 = dktX0_addWork_0 := by decide +kernel
theorem dksX0_addWork_1 : cX0_addWork.data.toList.drop 23 = dktX0_addWork_1 := dk_seg dksX0_addWork_0 23 rfl rfl
theorem dX0_addWork_0 : decode cX0_addWork 0 = .ok (.aload 4, 2) := dk_25 4 (dk_at dksX0_addWork_0 0 rfl rfl)
theorem dX0_addWork_2 : decode cX0_addWork 2 = .ok (.iconst 0, 1) := dk_3 (dk_at dksX0_addWork_0 2 rfl rfl)
theorem dX0_addWork_3 : decode cX0_addWork 3 = .ok (.aload_n 0, 1) := dk_42 (dk_at dksX0_addWork_0 3 rfl rfl)
theorem dX0_addWork_4 : decode cX0_addWork 4 = .ok (.iload_n 1, 1) := dk_27 (dk_at dksX0_addWork_0 4 rfl rfl)
theorem dX0_addWork_5 : decode cX0_addWork 5 = .ok (.iload_n 2, 1) := dk_28 (dk_at dksX0_addWork_0 5 rfl rfl)
theorem dX0_addWork_6 : decode cX0_addWork 6 = .ok (.iload_n 3, 1) := dk_29 (dk_at dksX0_addWork_0 6 rfl rfl)
theorem dX0_addWork_7 : decode cX0_addWork 7 = .ok (.invokevirtual 162, 3) := dk_182 0 162 (dk_at dksX0_addWork_0 7 rfl rfl)
theorem dX0_addWork_10 : decode cX0_addWork 10 = .ok (.i2l, 1) := dk_133 (dk_at dksX0_addWork_0 10 rfl rfl)
theorem dX0_addWork_11 : decode cX0_addWork 11 = .ok (.lastore, 1) := dk_80 (dk_at dksX0_addWork_0 11 rfl rfl)
theorem dX0_addWork_12 : decode cX0_addWork 12 = .ok (.goto 15, 3) := dk_167 0 15 (dk_at dksX0_addWork_0 12 rfl rfl)
theorem dX0_addWork_15 : decode cX0_addWork 15 = .ok (.astore 5, 2) := dk_58 5 (dk_at dksX0_addWork_0 15 rfl rfl)
theorem dX0_addWork_17 : decode cX0_addWork 17 = .ok (.iconst 1, 1) := dk_4 (dk_at dksX0_addWork_0 17 rfl rfl)
theorem dX0_addWork_18 : decode cX0_addWork 18 = .ok (.ireturn, 1) := dk_172 (dk_at dksX0_addWork_0 18 rfl rfl)
theorem dX0_addWork_19 : decode cX0_addWork 19 = .ok (.astore 5, 2) := dk_58 5 (dk_at dksX0_addWork_0 19 rfl rfl)
theorem dX0_addWork_21 : decode cX0_addWork 21 = .ok (.iconst 2, 1) := dk_5 (dk_at dksX0_addWork_0 21 rfl rfl)
theorem dX0_addWork_22 : decode cX0_addWork 22 = .ok (.ireturn, 1) := dk_172 (dk_at dksX0_addWork_0 22 rfl rfl)
theorem dX0_addWork_23 : decode cX0_addWork 23 = .ok (.astore 5, 2) := dk_58 5 (dk_at dksX0_addWork_1 0 rfl rfl)
theorem dX0_addWork_25 : decode cX0_addWork 25 = .ok (.iconst 3, 1) := dk_6 (dk_at dksX0_addWork_1 2 rfl rfl)
theorem dX0_addWork_26 : decode cX0_addWork 26 = .ok (.ireturn, 1) := dk_172 (dk_at dksX0_addWork_1 3 rfl rfl)
theorem dX0_addWork_27 : decode cX0_addWork 27 = .ok (.iconst 0, 1) := dk_3 (dk_at dksX0_addWork_1 4 rfl rfl)
theorem dX0_addWork_28 : decode cX0_addWork 28 = .ok (.ireturn, 1) := dk_172 (dk_at dksX0_addWork_1 5 rfl rfl)
abbrev cX0_worksFor : ByteArray := method_49_code
def yX0_worksFor : MethodName := ⟨RX0, "worksFor", "(LFigureSurvey;I[J)I"⟩
def dkwX0_worksFor_0 : List UInt8 := [44, 3, 42, 27, 182, 0, 165, 133, 80, 167, 0, 6, 78, 4, 172, 3, 172]
abbrev dktX0_worksFor_0 : List UInt8 := dkwX0_worksFor_0 ++ []
theorem dksX0_worksFor_0 : cX0_worksFor.data.toList.drop 0 = dktX0_worksFor_0 := by decide +kernel
theorem dX0_worksFor_0 : decode cX0_worksFor 0 = .ok (.aload_n 2, 1) := dk_44 (dk_at dksX0_worksFor_0 0 rfl rfl)
theorem dX0_worksFor_1 : decode cX0_worksFor 1 = .ok (.iconst 0, 1) := dk_3 (dk_at dksX0_worksFor_0 1 rfl rfl)
theorem dX0_worksFor_2 : decode cX0_worksFor 2 = .ok (.aload_n 0, 1) := dk_42 (dk_at dksX0_worksFor_0 2 rfl rfl)
theorem dX0_worksFor_3 : decode cX0_worksFor 3 = .ok (.iload_n 1, 1) := dk_27 (dk_at dksX0_worksFor_0 3 rfl rfl)
theorem dX0_worksFor_4 : decode cX0_worksFor 4 = .ok (.invokevirtual 165, 3) := dk_182 0 165 (dk_at dksX0_worksFor_0 4 rfl rfl)
theorem dX0_worksFor_7 : decode cX0_worksFor 7 = .ok (.i2l, 1) := dk_133 (dk_at dksX0_worksFor_0 7 rfl rfl)
theorem dX0_worksFor_8 : decode cX0_worksFor 8 = .ok (.lastore, 1) := dk_80 (dk_at dksX0_worksFor_0 8 rfl rfl)
theorem dX0_worksFor_9 : decode cX0_worksFor 9 = .ok (.goto 6, 3) := dk_167 0 6 (dk_at dksX0_worksFor_0 9 rfl rfl)
theorem dX0_worksFor_12 : decode cX0_worksFor 12 = .ok (.astore_n 3, 1) := dk_78 (dk_at dksX0_worksFor_0 12 rfl rfl)
theorem dX0_worksFor_13 : decode cX0_worksFor 13 = .ok (.iconst 1, 1) := dk_4 (dk_at dksX0_worksFor_0 13 rfl rfl)
theorem dX0_worksFor_14 : decode cX0_worksFor 14 = .ok (.ireturn, 1) := dk_172 (dk_at dksX0_worksFor_0 14 rfl rfl)
theorem dX0_worksFor_15 : decode cX0_worksFor 15 = .ok (.iconst 0, 1) := dk_3 (dk_at dksX0_worksFor_0 15 rfl rfl)
theorem dX0_worksFor_16 : decode cX0_worksFor 16 = .ok (.ireturn, 1) := dk_172 (dk_at dksX0_worksFor_0 16 rfl rfl)
abbrev cX0_doWorks : ByteArray := method_50_code
def yX0_doWorks : MethodName := ⟨RX0, "doWorks", "(LFigureSurvey;I[J)I"⟩
def dkwX0_doWorks_0 : List UInt8 := [44, 3, 42, 27, 182, 0, 168, 133, 80, 167, 0, 9, 78, 4, 172, 78, 5, 172, 3, 172]
abbrev dktX0_doWorks_0 : List UInt8 := dkwX0_doWorks_0 ++ []
theorem dksX0_doWorks_0 : cX0_doWorks.data.toList.drop 0 = dktX0_doWorks_0 := by decide +kernel
theorem dX0_doWorks_0 : decode cX0_doWorks 0 = .ok (.aload_n 2, 1) := dk_44 (dk_at dksX0_doWorks_0 0 rfl rfl)
theorem dX0_doWorks_1 : decode cX0_doWorks 1 = .ok (.iconst 0, 1) := dk_3 (dk_at dksX0_doWorks_0 1 rfl rfl)
theorem dX0_doWorks_2 : decode cX0_doWorks 2 = .ok (.aload_n 0, 1) := dk_42 (dk_at dksX0_doWorks_0 2 rfl rfl)
theorem dX0_doWorks_3 : decode cX0_doWorks 3 = .ok (.iload_n 1, 1) := dk_27 (dk_at dksX0_doWorks_0 3 rfl rfl)
theorem dX0_doWorks_4 : decode cX0_doWorks 4 = .ok (.invokevirtual 168, 3) := dk_182 0 168 (dk_at dksX0_doWorks_0 4 rfl rfl)
theorem dX0_doWorks_7 : decode cX0_doWorks 7 = .ok (.i2l, 1) := dk_133 (dk_at dksX0_doWorks_0 7 rfl rfl)
theorem dX0_doWorks_8 : decode cX0_doWorks 8 = .ok (.lastore, 1) := dk_80 (dk_at dksX0_doWorks_0 8 rfl rfl)
theorem dX0_doWorks_9 : decode cX0_doWorks 9 = .ok (.goto 9, 3) := dk_167 0 9 (dk_at dksX0_doWorks_0 9 rfl rfl)
theorem dX0_doWorks_12 : decode cX0_doWorks 12 = .ok (.astore_n 3, 1) := dk_78 (dk_at dksX0_doWorks_0 12 rfl rfl)
theorem dX0_doWorks_13 : decode cX0_doWorks 13 = .ok (.iconst 1, 1) := dk_4 (dk_at dksX0_doWorks_0 13 rfl rfl)
theorem dX0_doWorks_14 : decode cX0_doWorks 14 = .ok (.ireturn, 1) := dk_172 (dk_at dksX0_doWorks_0 14 rfl rfl)
theorem dX0_doWorks_15 : decode cX0_doWorks 15 = .ok (.astore_n 3, 1) := dk_78 (dk_at dksX0_doWorks_0 15 rfl rfl)
theorem dX0_doWorks_16 : decode cX0_doWorks 16 = .ok (.iconst 2, 1) := dk_5 (dk_at dksX0_doWorks_0 16 rfl rfl)
theorem dX0_doWorks_17 : decode cX0_doWorks 17 = .ok (.ireturn, 1) := dk_172 (dk_at dksX0_doWorks_0 17 rfl rfl)
theorem dX0_doWorks_18 : decode cX0_doWorks 18 = .ok (.iconst 0, 1) := dk_3 (dk_at dksX0_doWorks_0 18 rfl rfl)
theorem dX0_doWorks_19 : decode cX0_doWorks 19 = .ok (.ireturn, 1) := dk_172 (dk_at dksX0_doWorks_0 19 rfl rfl)
abbrev cX0_setLoad : ByteArray := method_51_code
def yX0_setLoad : MethodName := ⟨RX0, "setLoad", "(LFigureSurvey;II[J)I"⟩
def dkwX0_setLoad_0 : List UInt8 := [45, 3, 42, 27, 28, 182, 0, 171, 133, 80, 167, 0, 11, 58, 4, 4, 172, 58, 4, 5, 172, 3, 172]
abbrev dktX0_setLoad_0 : List UInt8 := dkwX0_setLoad_0 ++ []
theorem dksX0_setLoad_0 : cX0_setLoad.data.toList.drop 0 = dktX0_setLoad_0 := by decide +kernel
theorem dX0_setLoad_0 : decode cX0_setLoad 0 = .ok (.aload_n 3, 1) := dk_45 (dk_at dksX0_setLoad_0 0 rfl rfl)
theorem dX0_setLoad_1 : decode cX0_setLoad 1 = .ok (.iconst 0, 1) := dk_3 (dk_at dksX0_setLoad_0 1 rfl rfl)
theorem dX0_setLoad_2 : decode cX0_setLoad 2 = .ok (.aload_n 0, 1) := dk_42 (dk_at dksX0_setLoad_0 2 rfl rfl)
theorem dX0_setLoad_3 : decode cX0_setLoad 3 = .ok (.iload_n 1, 1) := dk_27 (dk_at dksX0_setLoad_0 3 rfl rfl)
theorem dX0_setLoad_4 : decode cX0_setLoad 4 = .ok (.iload_n 2, 1) := dk_28 (dk_at dksX0_setLoad_0 4 rfl rfl)
theorem dX0_setLoad_5 : decode cX0_setLoad 5 = .ok (.invokevirtual 171, 3) := dk_182 0 171 (dk_at dksX0_setLoad_0 5 rfl rfl)
theorem dX0_setLoad_8 : decode cX0_setLoad 8 = .ok (.i2l, 1) := dk_133 (dk_at dksX0_setLoad_0 8 rfl rfl)
theorem dX0_setLoad_9 : decode cX0_setLoad 9 = .ok (.lastore, 1) := dk_80 (dk_at dksX0_setLoad_0 9 rfl rfl)
theorem dX0_setLoad_10 : decode cX0_setLoad 10 = .ok (.goto 11, 3) := dk_167 0 11 (dk_at dksX0_setLoad_0 10 rfl rfl)
theorem dX0_setLoad_13 : decode cX0_setLoad 13 = .ok (.astore 4, 2) := dk_58 4 (dk_at dksX0_setLoad_0 13 rfl rfl)
theorem dX0_setLoad_15 : decode cX0_setLoad 15 = .ok (.iconst 1, 1) := dk_4 (dk_at dksX0_setLoad_0 15 rfl rfl)
theorem dX0_setLoad_16 : decode cX0_setLoad 16 = .ok (.ireturn, 1) := dk_172 (dk_at dksX0_setLoad_0 16 rfl rfl)
theorem dX0_setLoad_17 : decode cX0_setLoad 17 = .ok (.astore 4, 2) := dk_58 4 (dk_at dksX0_setLoad_0 17 rfl rfl)
theorem dX0_setLoad_19 : decode cX0_setLoad 19 = .ok (.iconst 2, 1) := dk_5 (dk_at dksX0_setLoad_0 19 rfl rfl)
theorem dX0_setLoad_20 : decode cX0_setLoad 20 = .ok (.ireturn, 1) := dk_172 (dk_at dksX0_setLoad_0 20 rfl rfl)
theorem dX0_setLoad_21 : decode cX0_setLoad 21 = .ok (.iconst 0, 1) := dk_3 (dk_at dksX0_setLoad_0 21 rfl rfl)
theorem dX0_setLoad_22 : decode cX0_setLoad 22 = .ok (.ireturn, 1) := dk_172 (dk_at dksX0_setLoad_0 22 rfl rfl)
abbrev cX0_tour : ByteArray := method_52_code
def yX0_tour : MethodName := ⟨RX0, "tour", "(LFigureSurvey;II[J)I"⟩
def dkwX0_tour_1 : List UInt8 := [172, 3, 172]
abbrev dktX0_tour_1 : List UInt8 := dkwX0_tour_1 ++ []
def dkwX0_tour_0 : List UInt8 := [45, 3, 42, 27, 28, 182, 0, 174, 133, 80, 167, 0, 15, 58, 4, 4, 172, 58, 4, 5, 172, 58, 4, 6]
abbrev dktX0_tour_0 : List UInt8 := dkwX0_tour_0 ++ dktX0_tour_1
theorem dksX0_tour_0 : cX0_tour.data.toList.drop 0 = dktX0_tour_0 := by decide +kernel
theorem dksX0_tour_1 : cX0_tour.data.toList.drop 24 = dktX0_tour_1 := dk_seg dksX0_tour_0 24 rfl rfl
theorem dX0_tour_0 : decode cX0_tour 0 = .ok (.aload_n 3, 1) := dk_45 (dk_at dksX0_tour_0 0 rfl rfl)
theorem dX0_tour_1 : decode cX0_tour 1 = .ok (.iconst 0, 1) := dk_3 (dk_at dksX0_tour_0 1 rfl rfl)
theorem dX0_tour_2 : decode cX0_tour 2 = .ok (.aload_n 0, 1) := dk_42 (dk_at dksX0_tour_0 2 rfl rfl)
theorem dX0_tour_3 : decode cX0_tour 3 = .ok (.iload_n 1, 1) := dk_27 (dk_at dksX0_tour_0 3 rfl rfl)
theorem dX0_tour_4 : decode cX0_tour 4 = .ok (.iload_n 2, 1) := dk_28 (dk_at dksX0_tour_0 4 rfl rfl)
theorem dX0_tour_5 : decode cX0_tour 5 = .ok (.invokevirtual 174, 3) := dk_182 0 174 (dk_at dksX0_tour_0 5 rfl rfl)
theorem dX0_tour_8 : decode cX0_tour 8 = .ok (.i2l, 1) := dk_133 (dk_at dksX0_tour_0 8 rfl rfl)
theorem dX0_tour_9 : decode cX0_tour 9 = .ok (.lastore, 1) := dk_80 (dk_at dksX0_tour_0 9 rfl rfl)
theorem dX0_tour_10 : decode cX0_tour 10 = .ok (.goto 15, 3) := dk_167 0 15 (dk_at dksX0_tour_0 10 rfl rfl)
theorem dX0_tour_13 : decode cX0_tour 13 = .ok (.astore 4, 2) := dk_58 4 (dk_at dksX0_tour_0 13 rfl rfl)
theorem dX0_tour_15 : decode cX0_tour 15 = .ok (.iconst 1, 1) := dk_4 (dk_at dksX0_tour_0 15 rfl rfl)
theorem dX0_tour_16 : decode cX0_tour 16 = .ok (.ireturn, 1) := dk_172 (dk_at dksX0_tour_0 16 rfl rfl)
theorem dX0_tour_17 : decode cX0_tour 17 = .ok (.astore 4, 2) := dk_58 4 (dk_at dksX0_tour_0 17 rfl rfl)
theorem dX0_tour_19 : decode cX0_tour 19 = .ok (.iconst 2, 1) := dk_5 (dk_at dksX0_tour_0 19 rfl rfl)
theorem dX0_tour_20 : decode cX0_tour 20 = .ok (.ireturn, 1) := dk_172 (dk_at dksX0_tour_0 20 rfl rfl)
theorem dX0_tour_21 : decode cX0_tour 21 = .ok (.astore 4, 2) := dk_58 4 (dk_at dksX0_tour_0 21 rfl rfl)
theorem dX0_tour_23 : decode cX0_tour 23 = .ok (.iconst 3, 1) := dk_6 (dk_at dksX0_tour_0 23 rfl rfl)
theorem dX0_tour_24 : decode cX0_tour 24 = .ok (.ireturn, 1) := dk_172 (dk_at dksX0_tour_1 0 rfl rfl)
theorem dX0_tour_25 : decode cX0_tour 25 = .ok (.iconst 0, 1) := dk_3 (dk_at dksX0_tour_1 1 rfl rfl)
theorem dX0_tour_26 : decode cX0_tour 26 = .ok (.ireturn, 1) := dk_172 (dk_at dksX0_tour_1 2 rfl rfl)
abbrev cX0_tellDam : ByteArray := method_53_code
def yX0_tellDam : MethodName := ⟨RX0, "tellDam", "(LFigureSurvey;II[J)I"⟩
def dkwX0_tellDam_0 : List UInt8 := [45, 3, 42, 27, 28, 182, 0, 177, 133, 80, 167, 0, 11, 58, 4, 4, 172, 58, 4, 5, 172, 3, 172]
abbrev dktX0_tellDam_0 : List UInt8 := dkwX0_tellDam_0 ++ []
theorem dksX0_tellDam_0 : cX0_tellDam.data.toList.drop 0 = dktX0_tellDam_0 := by decide +kernel
theorem dX0_tellDam_0 : decode cX0_tellDam 0 = .ok (.aload_n 3, 1) := dk_45 (dk_at dksX0_tellDam_0 0 rfl rfl)
theorem dX0_tellDam_1 : decode cX0_tellDam 1 = .ok (.iconst 0, 1) := dk_3 (dk_at dksX0_tellDam_0 1 rfl rfl)
theorem dX0_tellDam_2 : decode cX0_tellDam 2 = .ok (.aload_n 0, 1) := dk_42 (dk_at dksX0_tellDam_0 2 rfl rfl)
theorem dX0_tellDam_3 : decode cX0_tellDam 3 = .ok (.iload_n 1, 1) := dk_27 (dk_at dksX0_tellDam_0 3 rfl rfl)
theorem dX0_tellDam_4 : decode cX0_tellDam 4 = .ok (.iload_n 2, 1) := dk_28 (dk_at dksX0_tellDam_0 4 rfl rfl)
theorem dX0_tellDam_5 : decode cX0_tellDam 5 = .ok (.invokevirtual 177, 3) := dk_182 0 177 (dk_at dksX0_tellDam_0 5 rfl rfl)
theorem dX0_tellDam_8 : decode cX0_tellDam 8 = .ok (.i2l, 1) := dk_133 (dk_at dksX0_tellDam_0 8 rfl rfl)
theorem dX0_tellDam_9 : decode cX0_tellDam 9 = .ok (.lastore, 1) := dk_80 (dk_at dksX0_tellDam_0 9 rfl rfl)
theorem dX0_tellDam_10 : decode cX0_tellDam 10 = .ok (.goto 11, 3) := dk_167 0 11 (dk_at dksX0_tellDam_0 10 rfl rfl)
theorem dX0_tellDam_13 : decode cX0_tellDam 13 = .ok (.astore 4, 2) := dk_58 4 (dk_at dksX0_tellDam_0 13 rfl rfl)
theorem dX0_tellDam_15 : decode cX0_tellDam 15 = .ok (.iconst 1, 1) := dk_4 (dk_at dksX0_tellDam_0 15 rfl rfl)
theorem dX0_tellDam_16 : decode cX0_tellDam 16 = .ok (.ireturn, 1) := dk_172 (dk_at dksX0_tellDam_0 16 rfl rfl)
theorem dX0_tellDam_17 : decode cX0_tellDam 17 = .ok (.astore 4, 2) := dk_58 4 (dk_at dksX0_tellDam_0 17 rfl rfl)
theorem dX0_tellDam_19 : decode cX0_tellDam 19 = .ok (.iconst 2, 1) := dk_5 (dk_at dksX0_tellDam_0 19 rfl rfl)
theorem dX0_tellDam_20 : decode cX0_tellDam 20 = .ok (.ireturn, 1) := dk_172 (dk_at dksX0_tellDam_0 20 rfl rfl)
theorem dX0_tellDam_21 : decode cX0_tellDam 21 = .ok (.iconst 0, 1) := dk_3 (dk_at dksX0_tellDam_0 21 rfl rfl)
theorem dX0_tellDam_22 : decode cX0_tellDam 22 = .ok (.ireturn, 1) := dk_172 (dk_at dksX0_tellDam_0 22 rfl rfl)
abbrev cX0_isDrowned : ByteArray := method_54_code
def yX0_isDrowned : MethodName := ⟨RX0, "isDrowned", "(LFigureSurvey;I[J)I"⟩
def dkwX0_isDrowned_0 : List UInt8 := [44, 3, 42, 27, 182, 0, 180, 153, 0, 7, 10, 167, 0, 4, 9, 80, 167, 0, 6, 78, 4, 172, 3, 172]
abbrev dktX0_isDrowned_0 : List UInt8 := dkwX0_isDrowned_0 ++ []
theorem dksX0_isDrowned_0 : cX0_isDrowned.data.toList.drop 0 = dktX0_isDrowned_0 := by decide +kernel
theorem dX0_isDrowned_0 : decode cX0_isDrowned 0 = .ok (.aload_n 2, 1) := dk_44 (dk_at dksX0_isDrowned_0 0 rfl rfl)
theorem dX0_isDrowned_1 : decode cX0_isDrowned 1 = .ok (.iconst 0, 1) := dk_3 (dk_at dksX0_isDrowned_0 1 rfl rfl)
theorem dX0_isDrowned_2 : decode cX0_isDrowned 2 = .ok (.aload_n 0, 1) := dk_42 (dk_at dksX0_isDrowned_0 2 rfl rfl)
theorem dX0_isDrowned_3 : decode cX0_isDrowned 3 = .ok (.iload_n 1, 1) := dk_27 (dk_at dksX0_isDrowned_0 3 rfl rfl)
theorem dX0_isDrowned_4 : decode cX0_isDrowned 4 = .ok (.invokevirtual 180, 3) := dk_182 0 180 (dk_at dksX0_isDrowned_0 4 rfl rfl)
theorem dX0_isDrowned_7 : decode cX0_isDrowned 7 = .ok (.ifCond .eq 7, 3) := dk_153 0 7 (dk_at dksX0_isDrowned_0 7 rfl rfl)
theorem dX0_isDrowned_10 : decode cX0_isDrowned 10 = .ok (.lconst 1, 1) := dk_10 (dk_at dksX0_isDrowned_0 10 rfl rfl)
theorem dX0_isDrowned_11 : decode cX0_isDrowned 11 = .ok (.goto 4, 3) := dk_167 0 4 (dk_at dksX0_isDrowned_0 11 rfl rfl)
theorem dX0_isDrowned_14 : decode cX0_isDrowned 14 = .ok (.lconst 0, 1) := dk_9 (dk_at dksX0_isDrowned_0 14 rfl rfl)
theorem dX0_isDrowned_15 : decode cX0_isDrowned 15 = .ok (.lastore, 1) := dk_80 (dk_at dksX0_isDrowned_0 15 rfl rfl)
theorem dX0_isDrowned_16 : decode cX0_isDrowned 16 = .ok (.goto 6, 3) := dk_167 0 6 (dk_at dksX0_isDrowned_0 16 rfl rfl)
theorem dX0_isDrowned_19 : decode cX0_isDrowned 19 = .ok (.astore_n 3, 1) := dk_78 (dk_at dksX0_isDrowned_0 19 rfl rfl)
theorem dX0_isDrowned_20 : decode cX0_isDrowned 20 = .ok (.iconst 1, 1) := dk_4 (dk_at dksX0_isDrowned_0 20 rfl rfl)
theorem dX0_isDrowned_21 : decode cX0_isDrowned 21 = .ok (.ireturn, 1) := dk_172 (dk_at dksX0_isDrowned_0 21 rfl rfl)
theorem dX0_isDrowned_22 : decode cX0_isDrowned 22 = .ok (.iconst 0, 1) := dk_3 (dk_at dksX0_isDrowned_0 22 rfl rfl)
theorem dX0_isDrowned_23 : decode cX0_isDrowned 23 = .ok (.ireturn, 1) := dk_172 (dk_at dksX0_isDrowned_0 23 rfl rfl)
theorem q73 : (Jvm.Cond.initialized "FigureSurveyLaw") ∈ lw_all := lw_g (lw_at lw_m1 0 rfl) rfl
theorem q132 : (Jvm.Cond.classLink "FigureSurveyLaw" (8 : Nat) "FigureSurvey") ∈ lw_all := lw_g (lw_at lw_m1 59 rfl) rfl
theorem q134 : (Jvm.Cond.methodLink "FigureSurveyLaw" (184 : Nat) ({ cls := "FigureSurvey", name := "<init>", desc := "()V" } : Jvm.MethodName)) ∈ lw_all := lw_g (lw_at lw_m1 61 rfl) rfl
theorem q266 : (Jvm.Cond.methodLink "FigureSurveyLaw" (360 : Nat) ({ cls := "FigureSurvey", name := "recordFirst", desc := "()I" } : Jvm.MethodName)) ∈ lw_all := lw_g (lw_at lw_m1 193 rfl) rfl
theorem q855 : (Jvm.Cond.methodLink "FigureSurveyLaw" (364 : Nat) ({ cls := "FigureSurvey", name := "errors", desc := "()I" } : Jvm.MethodName)) ∈ lw_all := lw_g (lw_at lw_m4 62 rfl) rfl
theorem q1345 : (Jvm.Cond.methodLink "FigureSurveyLaw" (368 : Nat) ({ cls := "FigureSurvey", name := "meanSpan", desc := "()D" } : Jvm.MethodName)) ∈ lw_all := lw_g (lw_at lw_m6 72 rfl) rfl
theorem q1555 : (Jvm.Cond.methodLink "FigureSurveyLaw" (373 : Nat) ({ cls := "FigureSurvey", name := "heldShare", desc := "()F" } : Jvm.MethodName)) ∈ lw_all := lw_g (lw_at lw_m7 42 rfl) rfl
theorem q1569 : (Jvm.Cond.methodLink "FigureSurveyLaw" (188 : Nat) ({ cls := "FigureSurveyLaw", name := "addPanel", desc := "(LFigureSurvey;I[J)I" } : Jvm.MethodName)) ∈ lw_all := lw_g (lw_at lw_m7 56 rfl) rfl
theorem q1570 : (Jvm.Cond.static ({ cls := "FigureSurveyLaw", name := "addPanel", desc := "(LFigureSurvey;I[J)I" } : Jvm.MethodName)) ∈ lw_all := lw_g (lw_at lw_m7 57 rfl) rfl
theorem q1571 : (Jvm.Cond.codeWith ({ cls := "FigureSurveyLaw", name := "addPanel", desc := "(LFigureSurvey;I[J)I" } : Jvm.MethodName) method_3_code (4 : Nat) (Option.some Jvm.ClassFile.FieldType.int) [((0 : Nat), (9 : Nat), (12 : Nat), (13 : Nat)), ((0 : Nat), (9 : Nat), (15 : Nat), (15 : Nat))]) ∈ lw_all := lw_g (lw_at lw_m7 58 rfl) rfl
theorem q1572 : (Jvm.Cond.classLink "FigureSurveyLaw" (13 : Nat) "java/lang/IllegalArgumentException") ∈ lw_all := lw_g (lw_at lw_m7 59 rfl) rfl
theorem q1573 : (Jvm.Cond.classLink "FigureSurveyLaw" (15 : Nat) "java/lang/IllegalStateException") ∈ lw_all := lw_g (lw_at lw_m7 60 rfl) rfl
theorem q1574 : (Jvm.Cond.methodLink "FigureSurveyLaw" (7 : Nat) ({ cls := "FigureSurvey", name := "addPanel", desc := "(I)I" } : Jvm.MethodName)) ∈ lw_all := lw_g (lw_at lw_m7 61 rfl) rfl
theorem q1674 : (Jvm.Cond.methodLink "FigureSurveyLaw" (198 : Nat) ({ cls := "FigureSurveyLaw", name := "setDepth", desc := "(LFigureSurvey;III[J)I" } : Jvm.MethodName)) ∈ lw_all := lw_g (lw_at lw_m7 161 rfl) rfl
theorem q1675 : (Jvm.Cond.static ({ cls := "FigureSurveyLaw", name := "setDepth", desc := "(LFigureSurvey;III[J)I" } : Jvm.MethodName)) ∈ lw_all := lw_g (lw_at lw_m7 162 rfl) rfl
theorem q1676 : (Jvm.Cond.codeWith ({ cls := "FigureSurveyLaw", name := "setDepth", desc := "(LFigureSurvey;III[J)I" } : Jvm.MethodName) method_4_code (6 : Nat) (Option.some Jvm.ClassFile.FieldType.int) [((0 : Nat), (12 : Nat), (15 : Nat), (21 : Nat)), ((0 : Nat), (12 : Nat), (19 : Nat), (13 : Nat)), ((0 : Nat), (12 : Nat), (23 : Nat), (15 : Nat))]) ∈ lw_all := lw_g (lw_at lw_m7 163 rfl) rfl
theorem q1677 : (Jvm.Cond.classLink "FigureSurveyLaw" (21 : Nat) "java/lang/IndexOutOfBoundsException") ∈ lw_all := lw_g (lw_at lw_m7 164 rfl) rfl
theorem q1701 : (Jvm.Cond.methodLink "FigureSurveyLaw" (17 : Nat) ({ cls := "FigureSurvey", name := "setDepth", desc := "(III)I" } : Jvm.MethodName)) ∈ lw_all := lw_g (lw_at lw_m7 188 rfl) rfl
theorem q1725 : (Jvm.Cond.methodLink "FigureSurveyLaw" (202 : Nat) ({ cls := "FigureSurveyLaw", name := "light", desc := "(LFigureSurvey;II[J)I" } : Jvm.MethodName)) ∈ lw_all := lw_g (lw_at lw_m7 212 rfl) rfl
theorem q1726 : (Jvm.Cond.static ({ cls := "FigureSurveyLaw", name := "light", desc := "(LFigureSurvey;II[J)I" } : Jvm.MethodName)) ∈ lw_all := lw_g (lw_at lw_m7 213 rfl) rfl
theorem q1727 : (Jvm.Cond.codeWith ({ cls := "FigureSurveyLaw", name := "light", desc := "(LFigureSurvey;II[J)I" } : Jvm.MethodName) method_5_code (5 : Nat) (Option.some Jvm.ClassFile.FieldType.int) [((0 : Nat), (10 : Nat), (13 : Nat), (21 : Nat)), ((0 : Nat), (10 : Nat), (17 : Nat), (13 : Nat)), ((0 : Nat), (10 : Nat), (21 : Nat), (15 : Nat))]) ∈ lw_all := lw_g (lw_at lw_m7 214 rfl) rfl
theorem q1728 : (Jvm.Cond.methodLink "FigureSurveyLaw" (23 : Nat) ({ cls := "FigureSurvey", name := "light", desc := "(II)I" } : Jvm.MethodName)) ∈ lw_all := lw_g (lw_at lw_m7 215 rfl) rfl
theorem q1732 : (Jvm.Cond.methodLink "FigureSurveyLaw" (206 : Nat) ({ cls := "FigureSurveyLaw", name := "seen", desc := "(LFigureSurvey;II[J)I" } : Jvm.MethodName)) ∈ lw_all := lw_g (lw_at lw_m7 219 rfl) rfl
theorem q1733 : (Jvm.Cond.static ({ cls := "FigureSurveyLaw", name := "seen", desc := "(LFigureSurvey;II[J)I" } : Jvm.MethodName)) ∈ lw_all := lw_g (lw_at lw_m7 220 rfl) rfl
theorem q1734 : (Jvm.Cond.codeWith ({ cls := "FigureSurveyLaw", name := "seen", desc := "(LFigureSurvey;II[J)I" } : Jvm.MethodName) method_6_code (5 : Nat) (Option.some Jvm.ClassFile.FieldType.int) [((0 : Nat), (10 : Nat), (13 : Nat), (21 : Nat)), ((0 : Nat), (10 : Nat), (17 : Nat), (13 : Nat))]) ∈ lw_all := lw_g (lw_at lw_m7 221 rfl) rfl
theorem q1735 : (Jvm.Cond.methodLink "FigureSurveyLaw" (27 : Nat) ({ cls := "FigureSurvey", name := "seen", desc := "(II)I" } : Jvm.MethodName)) ∈ lw_all := lw_g (lw_at lw_m7 222 rfl) rfl
theorem q1753 : (Jvm.Cond.methodLink "FigureSurveyLaw" (209 : Nat) ({ cls := "FigureSurveyLaw", name := "edges", desc := "(LFigureSurvey;II[J)I" } : Jvm.MethodName)) ∈ lw_all := lw_g (lw_at lw_m8 0 rfl) rfl
theorem q1754 : (Jvm.Cond.static ({ cls := "FigureSurveyLaw", name := "edges", desc := "(LFigureSurvey;II[J)I" } : Jvm.MethodName)) ∈ lw_all := lw_g (lw_at lw_m8 1 rfl) rfl
theorem q1755 : (Jvm.Cond.codeWith ({ cls := "FigureSurveyLaw", name := "edges", desc := "(LFigureSurvey;II[J)I" } : Jvm.MethodName) method_7_code (5 : Nat) (Option.some Jvm.ClassFile.FieldType.int) [((0 : Nat), (9 : Nat), (12 : Nat), (21 : Nat)), ((0 : Nat), (9 : Nat), (16 : Nat), (13 : Nat))]) ∈ lw_all := lw_g (lw_at lw_m8 2 rfl) rfl
theorem q1756 : (Jvm.Cond.methodLink "FigureSurveyLaw" (30 : Nat) ({ cls := "FigureSurvey", name := "edges", desc := "(II)J" } : Jvm.MethodName)) ∈ lw_all := lw_g (lw_at lw_m8 3 rfl) rfl
theorem q1765 : (Jvm.Cond.methodLink "FigureSurveyLaw" (214 : Nat) ({ cls := "FigureSurveyLaw", name := "addStroke", desc := "(LFigureSurvey;IJ[J)I" } : Jvm.MethodName)) ∈ lw_all := lw_g (lw_at lw_m8 12 rfl) rfl
theorem q1766 : (Jvm.Cond.static ({ cls := "FigureSurveyLaw", name := "addStroke", desc := "(LFigureSurvey;IJ[J)I" } : Jvm.MethodName)) ∈ lw_all := lw_g (lw_at lw_m8 13 rfl) rfl
theorem q1767 : (Jvm.Cond.codeWith ({ cls := "FigureSurveyLaw", name := "addStroke", desc := "(LFigureSurvey;IJ[J)I" } : Jvm.MethodName) method_8_code (6 : Nat) (Option.some Jvm.ClassFile.FieldType.int) [((0 : Nat), (11 : Nat), (14 : Nat), (21 : Nat)), ((0 : Nat), (11 : Nat), (18 : Nat), (13 : Nat)), ((0 : Nat), (11 : Nat), (22 : Nat), (15 : Nat))]) ∈ lw_all := lw_g (lw_at lw_m8 14 rfl) rfl
theorem q1768 : (Jvm.Cond.methodLink "FigureSurveyLaw" (34 : Nat) ({ cls := "FigureSurvey", name := "addStroke", desc := "(IJ)I" } : Jvm.MethodName)) ∈ lw_all := lw_g (lw_at lw_m8 15 rfl) rfl
theorem q1795 : (Jvm.Cond.methodLink "FigureSurveyLaw" (218 : Nat) ({ cls := "FigureSurveyLaw", name := "addFigure", desc := "(LFigureSurvey;I[J)I" } : Jvm.MethodName)) ∈ lw_all := lw_g (lw_at lw_m8 42 rfl) rfl
theorem q1796 : (Jvm.Cond.static ({ cls := "FigureSurveyLaw", name := "addFigure", desc := "(LFigureSurvey;I[J)I" } : Jvm.MethodName)) ∈ lw_all := lw_g (lw_at lw_m8 43 rfl) rfl
theorem q1797 : (Jvm.Cond.codeWith ({ cls := "FigureSurveyLaw", name := "addFigure", desc := "(LFigureSurvey;I[J)I" } : Jvm.MethodName) method_9_code (4 : Nat) (Option.some Jvm.ClassFile.FieldType.int) [((0 : Nat), (9 : Nat), (12 : Nat), (21 : Nat)), ((0 : Nat), (9 : Nat), (15 : Nat), (15 : Nat))]) ∈ lw_all := lw_g (lw_at lw_m8 44 rfl) rfl
theorem q1798 : (Jvm.Cond.methodLink "FigureSurveyLaw" (38 : Nat) ({ cls := "FigureSurvey", name := "addFigure", desc := "(I)I" } : Jvm.MethodName)) ∈ lw_all := lw_g (lw_at lw_m8 45 rfl) rfl
theorem q1842 : (Jvm.Cond.methodLink "FigureSurveyLaw" (221 : Nat) ({ cls := "FigureSurveyLaw", name := "setStroke", desc := "(LFigureSurvey;IIZ[J)I" } : Jvm.MethodName)) ∈ lw_all := lw_g (lw_at lw_m8 89 rfl) rfl
theorem q1843 : (Jvm.Cond.static ({ cls := "FigureSurveyLaw", name := "setStroke", desc := "(LFigureSurvey;IIZ[J)I" } : Jvm.MethodName)) ∈ lw_all := lw_g (lw_at lw_m8 90 rfl) rfl
theorem q1844 : (Jvm.Cond.codeWith ({ cls := "FigureSurveyLaw", name := "setStroke", desc := "(LFigureSurvey;IIZ[J)I" } : Jvm.MethodName) method_10_code (6 : Nat) (Option.some Jvm.ClassFile.FieldType.int) [((0 : Nat), (12 : Nat), (15 : Nat), (21 : Nat)), ((0 : Nat), (12 : Nat), (19 : Nat), (13 : Nat)), ((0 : Nat), (12 : Nat), (23 : Nat), (15 : Nat))]) ∈ lw_all := lw_g (lw_at lw_m8 91 rfl) rfl
theorem q1845 : (Jvm.Cond.methodLink "FigureSurveyLaw" (41 : Nat) ({ cls := "FigureSurvey", name := "setStroke", desc := "(IIZ)I" } : Jvm.MethodName)) ∈ lw_all := lw_g (lw_at lw_m8 92 rfl) rfl
theorem q1871 : (Jvm.Cond.methodLink "FigureSurveyLaw" (225 : Nat) ({ cls := "FigureSurveyLaw", name := "cellsOf", desc := "(LFigureSurvey;I[J)I" } : Jvm.MethodName)) ∈ lw_all := lw_g (lw_at lw_m8 118 rfl) rfl
theorem q1872 : (Jvm.Cond.static ({ cls := "FigureSurveyLaw", name := "cellsOf", desc := "(LFigureSurvey;I[J)I" } : Jvm.MethodName)) ∈ lw_all := lw_g (lw_at lw_m8 119 rfl) rfl
theorem q1873 : (Jvm.Cond.codeWith ({ cls := "FigureSurveyLaw", name := "cellsOf", desc := "(LFigureSurvey;I[J)I" } : Jvm.MethodName) method_11_code (4 : Nat) (Option.some Jvm.ClassFile.FieldType.int) [((0 : Nat), (8 : Nat), (11 : Nat), (21 : Nat))]) ∈ lw_all := lw_g (lw_at lw_m8 120 rfl) rfl
theorem q1874 : (Jvm.Cond.methodLink "FigureSurveyLaw" (45 : Nat) ({ cls := "FigureSurvey", name := "cellsOf", desc := "(I)J" } : Jvm.MethodName)) ∈ lw_all := lw_g (lw_at lw_m8 121 rfl) rfl
theorem q1879 : (Jvm.Cond.methodLink "FigureSurveyLaw" (228 : Nat) ({ cls := "FigureSurveyLaw", name := "foundShare", desc := "(LFigureSurvey;I[J)I" } : Jvm.MethodName)) ∈ lw_all := lw_g (lw_at lw_m8 126 rfl) rfl
theorem q1880 : (Jvm.Cond.static ({ cls := "FigureSurveyLaw", name := "foundShare", desc := "(LFigureSurvey;I[J)I" } : Jvm.MethodName)) ∈ lw_all := lw_g (lw_at lw_m8 127 rfl) rfl
theorem q1881 : (Jvm.Cond.codeWith ({ cls := "FigureSurveyLaw", name := "foundShare", desc := "(LFigureSurvey;I[J)I" } : Jvm.MethodName) method_12_code (4 : Nat) (Option.some Jvm.ClassFile.FieldType.int) [((0 : Nat), (9 : Nat), (12 : Nat), (21 : Nat))]) ∈ lw_all := lw_g (lw_at lw_m8 128 rfl) rfl
theorem q1882 : (Jvm.Cond.methodLink "FigureSurveyLaw" (49 : Nat) ({ cls := "FigureSurvey", name := "foundShare", desc := "(I)I" } : Jvm.MethodName)) ∈ lw_all := lw_g (lw_at lw_m8 129 rfl) rfl
theorem q1887 : (Jvm.Cond.methodLink "FigureSurveyLaw" (231 : Nat) ({ cls := "FigureSurveyLaw", name := "sharedCells", desc := "(LFigureSurvey;II[J)I" } : Jvm.MethodName)) ∈ lw_all := lw_g (lw_at lw_m8 134 rfl) rfl
theorem q1888 : (Jvm.Cond.static ({ cls := "FigureSurveyLaw", name := "sharedCells", desc := "(LFigureSurvey;II[J)I" } : Jvm.MethodName)) ∈ lw_all := lw_g (lw_at lw_m8 135 rfl) rfl
theorem q1889 : (Jvm.Cond.codeWith ({ cls := "FigureSurveyLaw", name := "sharedCells", desc := "(LFigureSurvey;II[J)I" } : Jvm.MethodName) method_13_code (5 : Nat) (Option.some Jvm.ClassFile.FieldType.int) [((0 : Nat), (10 : Nat), (13 : Nat), (21 : Nat))]) ∈ lw_all := lw_g (lw_at lw_m8 136 rfl) rfl
theorem q1890 : (Jvm.Cond.methodLink "FigureSurveyLaw" (52 : Nat) ({ cls := "FigureSurvey", name := "sharedCells", desc := "(II)I" } : Jvm.MethodName)) ∈ lw_all := lw_g (lw_at lw_m8 137 rfl) rfl
theorem q1894 : (Jvm.Cond.methodLink "FigureSurveyLaw" (234 : Nat) ({ cls := "FigureSurveyLaw", name := "harm", desc := "(LFigureSurvey;IJ[J)I" } : Jvm.MethodName)) ∈ lw_all := lw_g (lw_at lw_m8 141 rfl) rfl
theorem q1895 : (Jvm.Cond.static ({ cls := "FigureSurveyLaw", name := "harm", desc := "(LFigureSurvey;IJ[J)I" } : Jvm.MethodName)) ∈ lw_all := lw_g (lw_at lw_m8 142 rfl) rfl
theorem q1896 : (Jvm.Cond.codeWith ({ cls := "FigureSurveyLaw", name := "harm", desc := "(LFigureSurvey;IJ[J)I" } : Jvm.MethodName) method_14_code (6 : Nat) (Option.some Jvm.ClassFile.FieldType.int) [((0 : Nat), (11 : Nat), (14 : Nat), (21 : Nat)), ((0 : Nat), (11 : Nat), (18 : Nat), (15 : Nat))]) ∈ lw_all := lw_g (lw_at lw_m8 143 rfl) rfl
theorem q1897 : (Jvm.Cond.methodLink "FigureSurveyLaw" (55 : Nat) ({ cls := "FigureSurvey", name := "harm", desc := "(IJ)I" } : Jvm.MethodName)) ∈ lw_all := lw_g (lw_at lw_m8 144 rfl) rfl
theorem q1902 : (Jvm.Cond.methodLink "FigureSurveyLaw" (237 : Nat) ({ cls := "FigureSurveyLaw", name := "cast", desc := "(LFigureSurvey;I[J)I" } : Jvm.MethodName)) ∈ lw_all := lw_g (lw_at lw_m8 149 rfl) rfl
theorem q1903 : (Jvm.Cond.static ({ cls := "FigureSurveyLaw", name := "cast", desc := "(LFigureSurvey;I[J)I" } : Jvm.MethodName)) ∈ lw_all := lw_g (lw_at lw_m8 150 rfl) rfl
theorem q1904 : (Jvm.Cond.codeWith ({ cls := "FigureSurveyLaw", name := "cast", desc := "(LFigureSurvey;I[J)I" } : Jvm.MethodName) method_15_code (4 : Nat) (Option.some Jvm.ClassFile.FieldType.int) [((0 : Nat), (9 : Nat), (12 : Nat), (21 : Nat)), ((0 : Nat), (9 : Nat), (15 : Nat), (15 : Nat))]) ∈ lw_all := lw_g (lw_at lw_m8 151 rfl) rfl
theorem q1905 : (Jvm.Cond.methodLink "FigureSurveyLaw" (58 : Nat) ({ cls := "FigureSurvey", name := "cast", desc := "(I)I" } : Jvm.MethodName)) ∈ lw_all := lw_g (lw_at lw_m8 152 rfl) rfl
theorem q1909 : (Jvm.Cond.methodLink "FigureSurveyLaw" (240 : Nat) ({ cls := "FigureSurveyLaw", name := "trace", desc := "(LFigureSurvey;IIJ[J)I" } : Jvm.MethodName)) ∈ lw_all := lw_g (lw_at lw_m8 156 rfl) rfl
theorem q1910 : (Jvm.Cond.static ({ cls := "FigureSurveyLaw", name := "trace", desc := "(LFigureSurvey;IIJ[J)I" } : Jvm.MethodName)) ∈ lw_all := lw_g (lw_at lw_m8 157 rfl) rfl
theorem q1911 : (Jvm.Cond.codeWith ({ cls := "FigureSurveyLaw", name := "trace", desc := "(LFigureSurvey;IIJ[J)I" } : Jvm.MethodName) method_16_code (7 : Nat) (Option.some Jvm.ClassFile.FieldType.int) [((0 : Nat), (12 : Nat), (15 : Nat), (21 : Nat)), ((0 : Nat), (12 : Nat), (19 : Nat), (13 : Nat)), ((0 : Nat), (12 : Nat), (23 : Nat), (15 : Nat))]) ∈ lw_all := lw_g (lw_at lw_m8 158 rfl) rfl
theorem q1912 : (Jvm.Cond.methodLink "FigureSurveyLaw" (61 : Nat) ({ cls := "FigureSurvey", name := "trace", desc := "(IIJ)I" } : Jvm.MethodName)) ∈ lw_all := lw_g (lw_at lw_m8 159 rfl) rfl
theorem q1932 : (Jvm.Cond.methodLink "FigureSurveyLaw" (244 : Nat) ({ cls := "FigureSurveyLaw", name := "shiftOf", desc := "(LFigureSurvey;I[J)I" } : Jvm.MethodName)) ∈ lw_all := lw_g (lw_at lw_m8 179 rfl) rfl
theorem q1933 : (Jvm.Cond.static ({ cls := "FigureSurveyLaw", name := "shiftOf", desc := "(LFigureSurvey;I[J)I" } : Jvm.MethodName)) ∈ lw_all := lw_g (lw_at lw_m8 180 rfl) rfl
theorem q1934 : (Jvm.Cond.codeWith ({ cls := "FigureSurveyLaw", name := "shiftOf", desc := "(LFigureSurvey;I[J)I" } : Jvm.MethodName) method_17_code (4 : Nat) (Option.some Jvm.ClassFile.FieldType.int) [((0 : Nat), (9 : Nat), (12 : Nat), (21 : Nat))]) ∈ lw_all := lw_g (lw_at lw_m8 181 rfl) rfl
theorem q1935 : (Jvm.Cond.methodLink "FigureSurveyLaw" (65 : Nat) ({ cls := "FigureSurvey", name := "shiftOf", desc := "(I)I" } : Jvm.MethodName)) ∈ lw_all := lw_g (lw_at lw_m8 182 rfl) rfl
theorem q1944 : (Jvm.Cond.methodLink "FigureSurveyLaw" (247 : Nat) ({ cls := "FigureSurveyLaw", name := "scoreOf", desc := "(LFigureSurvey;I[J)I" } : Jvm.MethodName)) ∈ lw_all := lw_g (lw_at lw_m8 191 rfl) rfl
theorem q1945 : (Jvm.Cond.static ({ cls := "FigureSurveyLaw", name := "scoreOf", desc := "(LFigureSurvey;I[J)I" } : Jvm.MethodName)) ∈ lw_all := lw_g (lw_at lw_m8 192 rfl) rfl
theorem q1946 : (Jvm.Cond.codeWith ({ cls := "FigureSurveyLaw", name := "scoreOf", desc := "(LFigureSurvey;I[J)I" } : Jvm.MethodName) method_18_code (4 : Nat) (Option.some Jvm.ClassFile.FieldType.int) [((0 : Nat), (9 : Nat), (12 : Nat), (21 : Nat))]) ∈ lw_all := lw_g (lw_at lw_m8 193 rfl) rfl
theorem q1947 : (Jvm.Cond.methodLink "FigureSurveyLaw" (68 : Nat) ({ cls := "FigureSurvey", name := "scoreOf", desc := "(I)I" } : Jvm.MethodName)) ∈ lw_all := lw_g (lw_at lw_m8 194 rfl) rfl
theorem q1952 : (Jvm.Cond.methodLink "FigureSurveyLaw" (250 : Nat) ({ cls := "FigureSurveyLaw", name := "handScore", desc := "(LFigureSurvey;I[J)I" } : Jvm.MethodName)) ∈ lw_all := lw_g (lw_at lw_m8 199 rfl) rfl
theorem q1953 : (Jvm.Cond.static ({ cls := "FigureSurveyLaw", name := "handScore", desc := "(LFigureSurvey;I[J)I" } : Jvm.MethodName)) ∈ lw_all := lw_g (lw_at lw_m8 200 rfl) rfl
theorem q1954 : (Jvm.Cond.codeWith ({ cls := "FigureSurveyLaw", name := "handScore", desc := "(LFigureSurvey;I[J)I" } : Jvm.MethodName) method_19_code (4 : Nat) (Option.some Jvm.ClassFile.FieldType.int) [((0 : Nat), (9 : Nat), (12 : Nat), (13 : Nat))]) ∈ lw_all := lw_g (lw_at lw_m8 201 rfl) rfl
theorem q1955 : (Jvm.Cond.methodLink "FigureSurveyLaw" (71 : Nat) ({ cls := "FigureSurvey", name := "handScore", desc := "(I)I" } : Jvm.MethodName)) ∈ lw_all := lw_g (lw_at lw_m8 202 rfl) rfl
theorem q1959 : (Jvm.Cond.methodLink "FigureSurveyLaw" (253 : Nat) ({ cls := "FigureSurveyLaw", name := "consensus", desc := "(LFigureSurvey;I[J)I" } : Jvm.MethodName)) ∈ lw_all := lw_g (lw_at lw_m8 206 rfl) rfl
theorem q1960 : (Jvm.Cond.static ({ cls := "FigureSurveyLaw", name := "consensus", desc := "(LFigureSurvey;I[J)I" } : Jvm.MethodName)) ∈ lw_all := lw_g (lw_at lw_m8 207 rfl) rfl
theorem q1961 : (Jvm.Cond.codeWith ({ cls := "FigureSurveyLaw", name := "consensus", desc := "(LFigureSurvey;I[J)I" } : Jvm.MethodName) method_20_code (4 : Nat) (Option.some Jvm.ClassFile.FieldType.int) [((0 : Nat), (8 : Nat), (11 : Nat), (21 : Nat))]) ∈ lw_all := lw_g (lw_at lw_m8 208 rfl) rfl
theorem q1962 : (Jvm.Cond.methodLink "FigureSurveyLaw" (74 : Nat) ({ cls := "FigureSurvey", name := "consensus", desc := "(I)J" } : Jvm.MethodName)) ∈ lw_all := lw_g (lw_at lw_m8 209 rfl) rfl
theorem q1971 : (Jvm.Cond.methodLink "FigureSurveyLaw" (256 : Nat) ({ cls := "FigureSurveyLaw", name := "mark", desc := "(LFigureSurvey;II[J)I" } : Jvm.MethodName)) ∈ lw_all := lw_g (lw_at lw_m8 218 rfl) rfl
theorem q1972 : (Jvm.Cond.static ({ cls := "FigureSurveyLaw", name := "mark", desc := "(LFigureSurvey;II[J)I" } : Jvm.MethodName)) ∈ lw_all := lw_g (lw_at lw_m8 219 rfl) rfl
theorem q1973 : (Jvm.Cond.codeWith ({ cls := "FigureSurveyLaw", name := "mark", desc := "(LFigureSurvey;II[J)I" } : Jvm.MethodName) method_21_code (5 : Nat) (Option.some Jvm.ClassFile.FieldType.int) [((0 : Nat), (10 : Nat), (13 : Nat), (21 : Nat)), ((0 : Nat), (10 : Nat), (17 : Nat), (13 : Nat))]) ∈ lw_all := lw_g (lw_at lw_m8 220 rfl) rfl
theorem q1974 : (Jvm.Cond.methodLink "FigureSurveyLaw" (77 : Nat) ({ cls := "FigureSurvey", name := "mark", desc := "(II)I" } : Jvm.MethodName)) ∈ lw_all := lw_g (lw_at lw_m8 221 rfl) rfl
theorem q1979 : (Jvm.Cond.methodLink "FigureSurveyLaw" (259 : Nat) ({ cls := "FigureSurveyLaw", name := "clearMarks", desc := "(LFigureSurvey;I[J)I" } : Jvm.MethodName)) ∈ lw_all := lw_g (lw_at lw_m8 226 rfl) rfl
theorem q1980 : (Jvm.Cond.static ({ cls := "FigureSurveyLaw", name := "clearMarks", desc := "(LFigureSurvey;I[J)I" } : Jvm.MethodName)) ∈ lw_all := lw_g (lw_at lw_m8 227 rfl) rfl
theorem q1981 : (Jvm.Cond.codeWith ({ cls := "FigureSurveyLaw", name := "clearMarks", desc := "(LFigureSurvey;I[J)I" } : Jvm.MethodName) method_22_code (4 : Nat) (Option.some Jvm.ClassFile.FieldType.int) [((0 : Nat), (9 : Nat), (12 : Nat), (21 : Nat))]) ∈ lw_all := lw_g (lw_at lw_m8 228 rfl) rfl
theorem q1982 : (Jvm.Cond.methodLink "FigureSurveyLaw" (80 : Nat) ({ cls := "FigureSurvey", name := "clearMarks", desc := "(I)I" } : Jvm.MethodName)) ∈ lw_all := lw_g (lw_at lw_m8 229 rfl) rfl
theorem q1986 : (Jvm.Cond.methodLink "FigureSurveyLaw" (262 : Nat) ({ cls := "FigureSurveyLaw", name := "doubtOf", desc := "(LFigureSurvey;I[J)I" } : Jvm.MethodName)) ∈ lw_all := lw_g (lw_at lw_m8 233 rfl) rfl
theorem q1987 : (Jvm.Cond.static ({ cls := "FigureSurveyLaw", name := "doubtOf", desc := "(LFigureSurvey;I[J)I" } : Jvm.MethodName)) ∈ lw_all := lw_g (lw_at lw_m8 234 rfl) rfl
theorem q1988 : (Jvm.Cond.codeWith ({ cls := "FigureSurveyLaw", name := "doubtOf", desc := "(LFigureSurvey;I[J)I" } : Jvm.MethodName) method_23_code (4 : Nat) (Option.some Jvm.ClassFile.FieldType.int) [((0 : Nat), (9 : Nat), (12 : Nat), (21 : Nat))]) ∈ lw_all := lw_g (lw_at lw_m8 235 rfl) rfl
theorem q1989 : (Jvm.Cond.methodLink "FigureSurveyLaw" (83 : Nat) ({ cls := "FigureSurvey", name := "doubtOf", desc := "(I)I" } : Jvm.MethodName)) ∈ lw_all := lw_g (lw_at lw_m8 236 rfl) rfl
theorem q1993 : (Jvm.Cond.methodLink "FigureSurveyLaw" (265 : Nat) ({ cls := "FigureSurveyLaw", name := "setWeapon", desc := "(LFigureSurvey;II[J)I" } : Jvm.MethodName)) ∈ lw_all := lw_g (lw_at lw_m9 0 rfl) rfl
theorem q1994 : (Jvm.Cond.static ({ cls := "FigureSurveyLaw", name := "setWeapon", desc := "(LFigureSurvey;II[J)I" } : Jvm.MethodName)) ∈ lw_all := lw_g (lw_at lw_m9 1 rfl) rfl
theorem q1995 : (Jvm.Cond.codeWith ({ cls := "FigureSurveyLaw", name := "setWeapon", desc := "(LFigureSurvey;II[J)I" } : Jvm.MethodName) method_24_code (5 : Nat) (Option.some Jvm.ClassFile.FieldType.int) [((0 : Nat), (10 : Nat), (13 : Nat), (13 : Nat))]) ∈ lw_all := lw_g (lw_at lw_m9 2 rfl) rfl
theorem q1996 : (Jvm.Cond.methodLink "FigureSurveyLaw" (86 : Nat) ({ cls := "FigureSurvey", name := "setWeapon", desc := "(II)I" } : Jvm.MethodName)) ∈ lw_all := lw_g (lw_at lw_m9 3 rfl) rfl
theorem q2000 : (Jvm.Cond.methodLink "FigureSurveyLaw" (268 : Nat) ({ cls := "FigureSurveyLaw", name := "setAnimal", desc := "(LFigureSurvey;II[J)I" } : Jvm.MethodName)) ∈ lw_all := lw_g (lw_at lw_m9 7 rfl) rfl
theorem q2001 : (Jvm.Cond.static ({ cls := "FigureSurveyLaw", name := "setAnimal", desc := "(LFigureSurvey;II[J)I" } : Jvm.MethodName)) ∈ lw_all := lw_g (lw_at lw_m9 8 rfl) rfl
theorem q2002 : (Jvm.Cond.codeWith ({ cls := "FigureSurveyLaw", name := "setAnimal", desc := "(LFigureSurvey;II[J)I" } : Jvm.MethodName) method_25_code (5 : Nat) (Option.some Jvm.ClassFile.FieldType.int) [((0 : Nat), (10 : Nat), (13 : Nat), (13 : Nat))]) ∈ lw_all := lw_g (lw_at lw_m9 9 rfl) rfl
theorem q2003 : (Jvm.Cond.methodLink "FigureSurveyLaw" (89 : Nat) ({ cls := "FigureSurvey", name := "setAnimal", desc := "(II)I" } : Jvm.MethodName)) ∈ lw_all := lw_g (lw_at lw_m9 10 rfl) rfl
theorem q2007 : (Jvm.Cond.methodLink "FigureSurveyLaw" (271 : Nat) ({ cls := "FigureSurveyLaw", name := "findOver", desc := "(LFigureSurvey;III[J)I" } : Jvm.MethodName)) ∈ lw_all := lw_g (lw_at lw_m9 14 rfl) rfl
theorem q2008 : (Jvm.Cond.static ({ cls := "FigureSurveyLaw", name := "findOver", desc := "(LFigureSurvey;III[J)I" } : Jvm.MethodName)) ∈ lw_all := lw_g (lw_at lw_m9 15 rfl) rfl
theorem q2009 : (Jvm.Cond.codeWith ({ cls := "FigureSurveyLaw", name := "findOver", desc := "(LFigureSurvey;III[J)I" } : Jvm.MethodName) method_26_code (6 : Nat) (Option.some Jvm.ClassFile.FieldType.int) [((0 : Nat), (12 : Nat), (15 : Nat), (21 : Nat)), ((0 : Nat), (12 : Nat), (19 : Nat), (13 : Nat)), ((0 : Nat), (12 : Nat), (23 : Nat), (15 : Nat))]) ∈ lw_all := lw_g (lw_at lw_m9 16 rfl) rfl
theorem q2010 : (Jvm.Cond.methodLink "FigureSurveyLaw" (92 : Nat) ({ cls := "FigureSurvey", name := "findOver", desc := "(III)I" } : Jvm.MethodName)) ∈ lw_all := lw_g (lw_at lw_m9 17 rfl) rfl
theorem q2079 : (Jvm.Cond.methodLink "FigureSurveyLaw" (274 : Nat) ({ cls := "FigureSurveyLaw", name := "findDate", desc := "(LFigureSurvey;IIII[J)I" } : Jvm.MethodName)) ∈ lw_all := lw_g (lw_at lw_m9 86 rfl) rfl
theorem q2080 : (Jvm.Cond.static ({ cls := "FigureSurveyLaw", name := "findDate", desc := "(LFigureSurvey;IIII[J)I" } : Jvm.MethodName)) ∈ lw_all := lw_g (lw_at lw_m9 87 rfl) rfl
theorem q2081 : (Jvm.Cond.codeWith ({ cls := "FigureSurveyLaw", name := "findDate", desc := "(LFigureSurvey;IIII[J)I" } : Jvm.MethodName) method_27_code (7 : Nat) (Option.some Jvm.ClassFile.FieldType.int) [((0 : Nat), (14 : Nat), (17 : Nat), (21 : Nat)), ((0 : Nat), (14 : Nat), (21 : Nat), (13 : Nat)), ((0 : Nat), (14 : Nat), (25 : Nat), (15 : Nat))]) ∈ lw_all := lw_g (lw_at lw_m9 88 rfl) rfl
theorem q2082 : (Jvm.Cond.methodLink "FigureSurveyLaw" (95 : Nat) ({ cls := "FigureSurvey", name := "findDate", desc := "(IIII)I" } : Jvm.MethodName)) ∈ lw_all := lw_g (lw_at lw_m9 89 rfl) rfl
theorem q2086 : (Jvm.Cond.methodLink "FigureSurveyLaw" (278 : Nat) ({ cls := "FigureSurveyLaw", name := "remove", desc := "(LFigureSurvey;I[J)I" } : Jvm.MethodName)) ∈ lw_all := lw_g (lw_at lw_m9 93 rfl) rfl
theorem q2087 : (Jvm.Cond.static ({ cls := "FigureSurveyLaw", name := "remove", desc := "(LFigureSurvey;I[J)I" } : Jvm.MethodName)) ∈ lw_all := lw_g (lw_at lw_m9 94 rfl) rfl
theorem q2088 : (Jvm.Cond.codeWith ({ cls := "FigureSurveyLaw", name := "remove", desc := "(LFigureSurvey;I[J)I" } : Jvm.MethodName) method_28_code (4 : Nat) (Option.some Jvm.ClassFile.FieldType.int) [((0 : Nat), (9 : Nat), (12 : Nat), (21 : Nat))]) ∈ lw_all := lw_g (lw_at lw_m9 95 rfl) rfl
theorem q2089 : (Jvm.Cond.methodLink "FigureSurveyLaw" (99 : Nat) ({ cls := "FigureSurvey", name := "remove", desc := "(I)I" } : Jvm.MethodName)) ∈ lw_all := lw_g (lw_at lw_m9 96 rfl) rfl
theorem q2123 : (Jvm.Cond.methodLink "FigureSurveyLaw" (281 : Nat) ({ cls := "FigureSurveyLaw", name := "standOf", desc := "(LFigureSurvey;I[J)I" } : Jvm.MethodName)) ∈ lw_all := lw_g (lw_at lw_m9 130 rfl) rfl
theorem q2124 : (Jvm.Cond.static ({ cls := "FigureSurveyLaw", name := "standOf", desc := "(LFigureSurvey;I[J)I" } : Jvm.MethodName)) ∈ lw_all := lw_g (lw_at lw_m9 131 rfl) rfl
theorem q2125 : (Jvm.Cond.codeWith ({ cls := "FigureSurveyLaw", name := "standOf", desc := "(LFigureSurvey;I[J)I" } : Jvm.MethodName) method_29_code (4 : Nat) (Option.some Jvm.ClassFile.FieldType.int) [((0 : Nat), (9 : Nat), (12 : Nat), (21 : Nat))]) ∈ lw_all := lw_g (lw_at lw_m9 132 rfl) rfl
theorem q2126 : (Jvm.Cond.methodLink "FigureSurveyLaw" (102 : Nat) ({ cls := "FigureSurvey", name := "standOf", desc := "(I)I" } : Jvm.MethodName)) ∈ lw_all := lw_g (lw_at lw_m9 133 rfl) rfl
theorem q2134 : (Jvm.Cond.methodLink "FigureSurveyLaw" (284 : Nat) ({ cls := "FigureSurveyLaw", name := "orderAt", desc := "(LFigureSurvey;II[J)I" } : Jvm.MethodName)) ∈ lw_all := lw_g (lw_at lw_m9 141 rfl) rfl
theorem q2135 : (Jvm.Cond.static ({ cls := "FigureSurveyLaw", name := "orderAt", desc := "(LFigureSurvey;II[J)I" } : Jvm.MethodName)) ∈ lw_all := lw_g (lw_at lw_m9 142 rfl) rfl
theorem q2136 : (Jvm.Cond.codeWith ({ cls := "FigureSurveyLaw", name := "orderAt", desc := "(LFigureSurvey;II[J)I" } : Jvm.MethodName) method_30_code (5 : Nat) (Option.some Jvm.ClassFile.FieldType.int) [((0 : Nat), (10 : Nat), (13 : Nat), (21 : Nat))]) ∈ lw_all := lw_g (lw_at lw_m9 143 rfl) rfl
theorem q2137 : (Jvm.Cond.methodLink "FigureSurveyLaw" (105 : Nat) ({ cls := "FigureSurvey", name := "orderAt", desc := "(II)I" } : Jvm.MethodName)) ∈ lw_all := lw_g (lw_at lw_m9 144 rfl) rfl
theorem q2141 : (Jvm.Cond.methodLink "FigureSurveyLaw" (287 : Nat) ({ cls := "FigureSurveyLaw", name := "brokenWeight", desc := "(LFigureSurvey;I[J)I" } : Jvm.MethodName)) ∈ lw_all := lw_g (lw_at lw_m9 148 rfl) rfl
theorem q2142 : (Jvm.Cond.static ({ cls := "FigureSurveyLaw", name := "brokenWeight", desc := "(LFigureSurvey;I[J)I" } : Jvm.MethodName)) ∈ lw_all := lw_g (lw_at lw_m9 149 rfl) rfl
theorem q2143 : (Jvm.Cond.codeWith ({ cls := "FigureSurveyLaw", name := "brokenWeight", desc := "(LFigureSurvey;I[J)I" } : Jvm.MethodName) method_31_code (4 : Nat) (Option.some Jvm.ClassFile.FieldType.int) [((0 : Nat), (9 : Nat), (12 : Nat), (21 : Nat))]) ∈ lw_all := lw_g (lw_at lw_m9 150 rfl) rfl
theorem q2144 : (Jvm.Cond.methodLink "FigureSurveyLaw" (108 : Nat) ({ cls := "FigureSurvey", name := "brokenWeight", desc := "(I)I" } : Jvm.MethodName)) ∈ lw_all := lw_g (lw_at lw_m9 151 rfl) rfl
theorem q2149 : (Jvm.Cond.methodLink "FigureSurveyLaw" (290 : Nat) ({ cls := "FigureSurveyLaw", name := "isAbove", desc := "(LFigureSurvey;II[J)I" } : Jvm.MethodName)) ∈ lw_all := lw_g (lw_at lw_m9 156 rfl) rfl
theorem q2150 : (Jvm.Cond.static ({ cls := "FigureSurveyLaw", name := "isAbove", desc := "(LFigureSurvey;II[J)I" } : Jvm.MethodName)) ∈ lw_all := lw_g (lw_at lw_m9 157 rfl) rfl
theorem q2151 : (Jvm.Cond.codeWith ({ cls := "FigureSurveyLaw", name := "isAbove", desc := "(LFigureSurvey;II[J)I" } : Jvm.MethodName) method_32_code (5 : Nat) (Option.some Jvm.ClassFile.FieldType.int) [((0 : Nat), (17 : Nat), (20 : Nat), (21 : Nat))]) ∈ lw_all := lw_g (lw_at lw_m9 158 rfl) rfl
theorem q2152 : (Jvm.Cond.methodLink "FigureSurveyLaw" (111 : Nat) ({ cls := "FigureSurvey", name := "isAbove", desc := "(II)Z" } : Jvm.MethodName)) ∈ lw_all := lw_g (lw_at lw_m9 159 rfl) rfl
theorem q2157 : (Jvm.Cond.methodLink "FigureSurveyLaw" (293 : Nat) ({ cls := "FigureSurveyLaw", name := "earliest", desc := "(LFigureSurvey;I[J)I" } : Jvm.MethodName)) ∈ lw_all := lw_g (lw_at lw_m9 164 rfl) rfl
theorem q2158 : (Jvm.Cond.static ({ cls := "FigureSurveyLaw", name := "earliest", desc := "(LFigureSurvey;I[J)I" } : Jvm.MethodName)) ∈ lw_all := lw_g (lw_at lw_m9 165 rfl) rfl
theorem q2159 : (Jvm.Cond.codeWith ({ cls := "FigureSurveyLaw", name := "earliest", desc := "(LFigureSurvey;I[J)I" } : Jvm.MethodName) method_33_code (4 : Nat) (Option.some Jvm.ClassFile.FieldType.int) [((0 : Nat), (9 : Nat), (12 : Nat), (21 : Nat))]) ∈ lw_all := lw_g (lw_at lw_m9 166 rfl) rfl
theorem q2160 : (Jvm.Cond.methodLink "FigureSurveyLaw" (115 : Nat) ({ cls := "FigureSurvey", name := "earliest", desc := "(I)I" } : Jvm.MethodName)) ∈ lw_all := lw_g (lw_at lw_m9 167 rfl) rfl
theorem q2164 : (Jvm.Cond.methodLink "FigureSurveyLaw" (296 : Nat) ({ cls := "FigureSurveyLaw", name := "latest", desc := "(LFigureSurvey;I[J)I" } : Jvm.MethodName)) ∈ lw_all := lw_g (lw_at lw_m9 171 rfl) rfl
theorem q2165 : (Jvm.Cond.static ({ cls := "FigureSurveyLaw", name := "latest", desc := "(LFigureSurvey;I[J)I" } : Jvm.MethodName)) ∈ lw_all := lw_g (lw_at lw_m9 172 rfl) rfl
theorem q2166 : (Jvm.Cond.codeWith ({ cls := "FigureSurveyLaw", name := "latest", desc := "(LFigureSurvey;I[J)I" } : Jvm.MethodName) method_34_code (4 : Nat) (Option.some Jvm.ClassFile.FieldType.int) [((0 : Nat), (9 : Nat), (12 : Nat), (21 : Nat))]) ∈ lw_all := lw_g (lw_at lw_m9 173 rfl) rfl
theorem q2167 : (Jvm.Cond.methodLink "FigureSurveyLaw" (118 : Nat) ({ cls := "FigureSurvey", name := "latest", desc := "(I)I" } : Jvm.MethodName)) ∈ lw_all := lw_g (lw_at lw_m9 174 rfl) rfl
theorem q2171 : (Jvm.Cond.methodLink "FigureSurveyLaw" (299 : Nat) ({ cls := "FigureSurveyLaw", name := "reasonFor", desc := "(LFigureSurvey;IZ[J)I" } : Jvm.MethodName)) ∈ lw_all := lw_g (lw_at lw_m9 178 rfl) rfl
theorem q2172 : (Jvm.Cond.static ({ cls := "FigureSurveyLaw", name := "reasonFor", desc := "(LFigureSurvey;IZ[J)I" } : Jvm.MethodName)) ∈ lw_all := lw_g (lw_at lw_m9 179 rfl) rfl
theorem q2173 : (Jvm.Cond.codeWith ({ cls := "FigureSurveyLaw", name := "reasonFor", desc := "(LFigureSurvey;IZ[J)I" } : Jvm.MethodName) method_35_code (5 : Nat) (Option.some Jvm.ClassFile.FieldType.int) [((0 : Nat), (10 : Nat), (13 : Nat), (21 : Nat))]) ∈ lw_all := lw_g (lw_at lw_m9 180 rfl) rfl
theorem q2174 : (Jvm.Cond.methodLink "FigureSurveyLaw" (121 : Nat) ({ cls := "FigureSurvey", name := "reasonFor", desc := "(IZ)I" } : Jvm.MethodName)) ∈ lw_all := lw_g (lw_at lw_m9 181 rfl) rfl
theorem q2179 : (Jvm.Cond.methodLink "FigureSurveyLaw" (303 : Nat) ({ cls := "FigureSurveyLaw", name := "setFeatures", desc := "(LFigureSurvey;II[J)I" } : Jvm.MethodName)) ∈ lw_all := lw_g (lw_at lw_m9 186 rfl) rfl
theorem q2180 : (Jvm.Cond.static ({ cls := "FigureSurveyLaw", name := "setFeatures", desc := "(LFigureSurvey;II[J)I" } : Jvm.MethodName)) ∈ lw_all := lw_g (lw_at lw_m9 187 rfl) rfl
theorem q2181 : (Jvm.Cond.codeWith ({ cls := "FigureSurveyLaw", name := "setFeatures", desc := "(LFigureSurvey;II[J)I" } : Jvm.MethodName) method_36_code (5 : Nat) (Option.some Jvm.ClassFile.FieldType.int) [((0 : Nat), (10 : Nat), (13 : Nat), (21 : Nat)), ((0 : Nat), (10 : Nat), (17 : Nat), (13 : Nat))]) ∈ lw_all := lw_g (lw_at lw_m9 188 rfl) rfl
theorem q2182 : (Jvm.Cond.methodLink "FigureSurveyLaw" (125 : Nat) ({ cls := "FigureSurvey", name := "setFeatures", desc := "(II)I" } : Jvm.MethodName)) ∈ lw_all := lw_g (lw_at lw_m9 189 rfl) rfl
theorem q2197 : (Jvm.Cond.methodLink "FigureSurveyLaw" (306 : Nat) ({ cls := "FigureSurveyLaw", name := "addStyle", desc := "(LFigureSurvey;I[J)I" } : Jvm.MethodName)) ∈ lw_all := lw_g (lw_at lw_m9 204 rfl) rfl
theorem q2198 : (Jvm.Cond.static ({ cls := "FigureSurveyLaw", name := "addStyle", desc := "(LFigureSurvey;I[J)I" } : Jvm.MethodName)) ∈ lw_all := lw_g (lw_at lw_m9 205 rfl) rfl
theorem q2199 : (Jvm.Cond.codeWith ({ cls := "FigureSurveyLaw", name := "addStyle", desc := "(LFigureSurvey;I[J)I" } : Jvm.MethodName) method_37_code (4 : Nat) (Option.some Jvm.ClassFile.FieldType.int) [((0 : Nat), (9 : Nat), (12 : Nat), (13 : Nat)), ((0 : Nat), (9 : Nat), (15 : Nat), (15 : Nat))]) ∈ lw_all := lw_g (lw_at lw_m9 206 rfl) rfl
theorem q2200 : (Jvm.Cond.methodLink "FigureSurveyLaw" (128 : Nat) ({ cls := "FigureSurvey", name := "addStyle", desc := "(I)I" } : Jvm.MethodName)) ∈ lw_all := lw_g (lw_at lw_m9 207 rfl) rfl
theorem q2204 : (Jvm.Cond.methodLink "FigureSurveyLaw" (309 : Nat) ({ cls := "FigureSurveyLaw", name := "styleOf", desc := "(LFigureSurvey;I[J)I" } : Jvm.MethodName)) ∈ lw_all := lw_g (lw_at lw_m9 211 rfl) rfl
theorem q2205 : (Jvm.Cond.static ({ cls := "FigureSurveyLaw", name := "styleOf", desc := "(LFigureSurvey;I[J)I" } : Jvm.MethodName)) ∈ lw_all := lw_g (lw_at lw_m9 212 rfl) rfl
theorem q2206 : (Jvm.Cond.codeWith ({ cls := "FigureSurveyLaw", name := "styleOf", desc := "(LFigureSurvey;I[J)I" } : Jvm.MethodName) method_38_code (4 : Nat) (Option.some Jvm.ClassFile.FieldType.int) [((0 : Nat), (9 : Nat), (12 : Nat), (21 : Nat))]) ∈ lw_all := lw_g (lw_at lw_m9 213 rfl) rfl
theorem q2207 : (Jvm.Cond.methodLink "FigureSurveyLaw" (131 : Nat) ({ cls := "FigureSurvey", name := "styleOf", desc := "(I)I" } : Jvm.MethodName)) ∈ lw_all := lw_g (lw_at lw_m9 214 rfl) rfl
theorem q2211 : (Jvm.Cond.methodLink "FigureSurveyLaw" (312 : Nat) ({ cls := "FigureSurveyLaw", name := "addEntry", desc := "(LFigureSurvey;II[J)I" } : Jvm.MethodName)) ∈ lw_all := lw_g (lw_at lw_m9 218 rfl) rfl
theorem q2212 : (Jvm.Cond.static ({ cls := "FigureSurveyLaw", name := "addEntry", desc := "(LFigureSurvey;II[J)I" } : Jvm.MethodName)) ∈ lw_all := lw_g (lw_at lw_m9 219 rfl) rfl
theorem q2213 : (Jvm.Cond.codeWith ({ cls := "FigureSurveyLaw", name := "addEntry", desc := "(LFigureSurvey;II[J)I" } : Jvm.MethodName) method_39_code (5 : Nat) (Option.some Jvm.ClassFile.FieldType.int) [((0 : Nat), (10 : Nat), (13 : Nat), (21 : Nat)), ((0 : Nat), (10 : Nat), (17 : Nat), (13 : Nat)), ((0 : Nat), (10 : Nat), (21 : Nat), (15 : Nat))]) ∈ lw_all := lw_g (lw_at lw_m9 220 rfl) rfl
theorem q2214 : (Jvm.Cond.methodLink "FigureSurveyLaw" (134 : Nat) ({ cls := "FigureSurvey", name := "addEntry", desc := "(II)I" } : Jvm.MethodName)) ∈ lw_all := lw_g (lw_at lw_m9 221 rfl) rfl
theorem q2236 : (Jvm.Cond.methodLink "FigureSurveyLaw" (315 : Nat) ({ cls := "FigureSurveyLaw", name := "figureFor", desc := "(LFigureSurvey;I[J)I" } : Jvm.MethodName)) ∈ lw_all := lw_g (lw_at lw_m10 3 rfl) rfl
theorem q2237 : (Jvm.Cond.static ({ cls := "FigureSurveyLaw", name := "figureFor", desc := "(LFigureSurvey;I[J)I" } : Jvm.MethodName)) ∈ lw_all := lw_g (lw_at lw_m10 4 rfl) rfl
theorem q2238 : (Jvm.Cond.codeWith ({ cls := "FigureSurveyLaw", name := "figureFor", desc := "(LFigureSurvey;I[J)I" } : Jvm.MethodName) method_40_code (4 : Nat) (Option.some Jvm.ClassFile.FieldType.int) [((0 : Nat), (9 : Nat), (12 : Nat), (21 : Nat))]) ∈ lw_all := lw_g (lw_at lw_m10 5 rfl) rfl
theorem q2239 : (Jvm.Cond.methodLink "FigureSurveyLaw" (137 : Nat) ({ cls := "FigureSurvey", name := "figureFor", desc := "(I)I" } : Jvm.MethodName)) ∈ lw_all := lw_g (lw_at lw_m10 6 rfl) rfl
theorem q2247 : (Jvm.Cond.methodLink "FigureSurveyLaw" (318 : Nat) ({ cls := "FigureSurveyLaw", name := "tellName", desc := "(LFigureSurvey;IIII[J)I" } : Jvm.MethodName)) ∈ lw_all := lw_g (lw_at lw_m10 14 rfl) rfl
theorem q2248 : (Jvm.Cond.static ({ cls := "FigureSurveyLaw", name := "tellName", desc := "(LFigureSurvey;IIII[J)I" } : Jvm.MethodName)) ∈ lw_all := lw_g (lw_at lw_m10 15 rfl) rfl
theorem q2249 : (Jvm.Cond.codeWith ({ cls := "FigureSurveyLaw", name := "tellName", desc := "(LFigureSurvey;IIII[J)I" } : Jvm.MethodName) method_41_code (7 : Nat) (Option.some Jvm.ClassFile.FieldType.int) [((0 : Nat), (14 : Nat), (17 : Nat), (21 : Nat)), ((0 : Nat), (14 : Nat), (21 : Nat), (13 : Nat)), ((0 : Nat), (14 : Nat), (25 : Nat), (15 : Nat))]) ∈ lw_all := lw_g (lw_at lw_m10 16 rfl) rfl
theorem q2250 : (Jvm.Cond.methodLink "FigureSurveyLaw" (140 : Nat) ({ cls := "FigureSurvey", name := "tellName", desc := "(IIII)I" } : Jvm.MethodName)) ∈ lw_all := lw_g (lw_at lw_m10 17 rfl) rfl
theorem q2273 : (Jvm.Cond.methodLink "FigureSurveyLaw" (321 : Nat) ({ cls := "FigureSurveyLaw", name := "nameFor", desc := "(LFigureSurvey;III[J)I" } : Jvm.MethodName)) ∈ lw_all := lw_g (lw_at lw_m10 40 rfl) rfl
theorem q2274 : (Jvm.Cond.static ({ cls := "FigureSurveyLaw", name := "nameFor", desc := "(LFigureSurvey;III[J)I" } : Jvm.MethodName)) ∈ lw_all := lw_g (lw_at lw_m10 41 rfl) rfl
theorem q2275 : (Jvm.Cond.codeWith ({ cls := "FigureSurveyLaw", name := "nameFor", desc := "(LFigureSurvey;III[J)I" } : Jvm.MethodName) method_42_code (6 : Nat) (Option.some Jvm.ClassFile.FieldType.int) [((0 : Nat), (12 : Nat), (15 : Nat), (21 : Nat)), ((0 : Nat), (12 : Nat), (19 : Nat), (13 : Nat))]) ∈ lw_all := lw_g (lw_at lw_m10 42 rfl) rfl
theorem q2276 : (Jvm.Cond.methodLink "FigureSurveyLaw" (143 : Nat) ({ cls := "FigureSurvey", name := "nameFor", desc := "(III)I" } : Jvm.MethodName)) ∈ lw_all := lw_g (lw_at lw_m10 43 rfl) rfl
theorem q2292 : (Jvm.Cond.methodLink "FigureSurveyLaw" (324 : Nat) ({ cls := "FigureSurveyLaw", name := "setRight", desc := "(LFigureSurvey;IIZ[J)I" } : Jvm.MethodName)) ∈ lw_all := lw_g (lw_at lw_m10 59 rfl) rfl
theorem q2293 : (Jvm.Cond.static ({ cls := "FigureSurveyLaw", name := "setRight", desc := "(LFigureSurvey;IIZ[J)I" } : Jvm.MethodName)) ∈ lw_all := lw_g (lw_at lw_m10 60 rfl) rfl
theorem q2294 : (Jvm.Cond.codeWith ({ cls := "FigureSurveyLaw", name := "setRight", desc := "(LFigureSurvey;IIZ[J)I" } : Jvm.MethodName) method_43_code (6 : Nat) (Option.some Jvm.ClassFile.FieldType.int) [((0 : Nat), (19 : Nat), (22 : Nat), (21 : Nat)), ((0 : Nat), (19 : Nat), (26 : Nat), (13 : Nat))]) ∈ lw_all := lw_g (lw_at lw_m10 61 rfl) rfl
theorem q2295 : (Jvm.Cond.methodLink "FigureSurveyLaw" (146 : Nat) ({ cls := "FigureSurvey", name := "setRight", desc := "(IIZ)Z" } : Jvm.MethodName)) ∈ lw_all := lw_g (lw_at lw_m10 62 rfl) rfl
theorem q2299 : (Jvm.Cond.methodLink "FigureSurveyLaw" (327 : Nat) ({ cls := "FigureSurveyLaw", name := "repaint", desc := "(LFigureSurvey;II[J)I" } : Jvm.MethodName)) ∈ lw_all := lw_g (lw_at lw_m10 66 rfl) rfl
theorem q2300 : (Jvm.Cond.static ({ cls := "FigureSurveyLaw", name := "repaint", desc := "(LFigureSurvey;II[J)I" } : Jvm.MethodName)) ∈ lw_all := lw_g (lw_at lw_m10 67 rfl) rfl
theorem q2301 : (Jvm.Cond.codeWith ({ cls := "FigureSurveyLaw", name := "repaint", desc := "(LFigureSurvey;II[J)I" } : Jvm.MethodName) method_44_code (5 : Nat) (Option.some Jvm.ClassFile.FieldType.int) [((0 : Nat), (10 : Nat), (13 : Nat), (21 : Nat)), ((0 : Nat), (10 : Nat), (17 : Nat), (13 : Nat)), ((0 : Nat), (10 : Nat), (21 : Nat), (15 : Nat))]) ∈ lw_all := lw_g (lw_at lw_m10 68 rfl) rfl
theorem q2302 : (Jvm.Cond.methodLink "FigureSurveyLaw" (150 : Nat) ({ cls := "FigureSurvey", name := "repaint", desc := "(II)I" } : Jvm.MethodName)) ∈ lw_all := lw_g (lw_at lw_m10 69 rfl) rfl
theorem q2306 : (Jvm.Cond.methodLink "FigureSurveyLaw" (330 : Nat) ({ cls := "FigureSurveyLaw", name := "passYears", desc := "(LFigureSurvey;I[J)I" } : Jvm.MethodName)) ∈ lw_all := lw_g (lw_at lw_m10 73 rfl) rfl
theorem q2307 : (Jvm.Cond.static ({ cls := "FigureSurveyLaw", name := "passYears", desc := "(LFigureSurvey;I[J)I" } : Jvm.MethodName)) ∈ lw_all := lw_g (lw_at lw_m10 74 rfl) rfl
theorem q2308 : (Jvm.Cond.codeWith ({ cls := "FigureSurveyLaw", name := "passYears", desc := "(LFigureSurvey;I[J)I" } : Jvm.MethodName) method_45_code (4 : Nat) (Option.some Jvm.ClassFile.FieldType.int) [((0 : Nat), (9 : Nat), (12 : Nat), (13 : Nat)), ((0 : Nat), (9 : Nat), (15 : Nat), (15 : Nat))]) ∈ lw_all := lw_g (lw_at lw_m10 75 rfl) rfl
theorem q2309 : (Jvm.Cond.methodLink "FigureSurveyLaw" (153 : Nat) ({ cls := "FigureSurvey", name := "passYears", desc := "(I)I" } : Jvm.MethodName)) ∈ lw_all := lw_g (lw_at lw_m10 76 rfl) rfl
theorem q2319 : (Jvm.Cond.methodLink "FigureSurveyLaw" (333 : Nat) ({ cls := "FigureSurveyLaw", name := "setDecay", desc := "(LFigureSurvey;IIII[J)I" } : Jvm.MethodName)) ∈ lw_all := lw_g (lw_at lw_m10 86 rfl) rfl
theorem q2320 : (Jvm.Cond.static ({ cls := "FigureSurveyLaw", name := "setDecay", desc := "(LFigureSurvey;IIII[J)I" } : Jvm.MethodName)) ∈ lw_all := lw_g (lw_at lw_m10 87 rfl) rfl
theorem q2321 : (Jvm.Cond.codeWith ({ cls := "FigureSurveyLaw", name := "setDecay", desc := "(LFigureSurvey;IIII[J)I" } : Jvm.MethodName) method_46_code (7 : Nat) (Option.some Jvm.ClassFile.FieldType.int) [((0 : Nat), (14 : Nat), (17 : Nat), (21 : Nat)), ((0 : Nat), (14 : Nat), (21 : Nat), (13 : Nat))]) ∈ lw_all := lw_g (lw_at lw_m10 88 rfl) rfl
theorem q2322 : (Jvm.Cond.methodLink "FigureSurveyLaw" (156 : Nat) ({ cls := "FigureSurvey", name := "setDecay", desc := "(IIII)I" } : Jvm.MethodName)) ∈ lw_all := lw_g (lw_at lw_m10 89 rfl) rfl
theorem q2326 : (Jvm.Cond.methodLink "FigureSurveyLaw" (336 : Nat) ({ cls := "FigureSurveyLaw", name := "healthOf", desc := "(LFigureSurvey;I[J)I" } : Jvm.MethodName)) ∈ lw_all := lw_g (lw_at lw_m10 93 rfl) rfl
theorem q2327 : (Jvm.Cond.static ({ cls := "FigureSurveyLaw", name := "healthOf", desc := "(LFigureSurvey;I[J)I" } : Jvm.MethodName)) ∈ lw_all := lw_g (lw_at lw_m10 94 rfl) rfl
theorem q2328 : (Jvm.Cond.codeWith ({ cls := "FigureSurveyLaw", name := "healthOf", desc := "(LFigureSurvey;I[J)I" } : Jvm.MethodName) method_47_code (4 : Nat) (Option.some Jvm.ClassFile.FieldType.int) [((0 : Nat), (9 : Nat), (12 : Nat), (21 : Nat))]) ∈ lw_all := lw_g (lw_at lw_m10 95 rfl) rfl
theorem q2329 : (Jvm.Cond.methodLink "FigureSurveyLaw" (159 : Nat) ({ cls := "FigureSurvey", name := "healthOf", desc := "(I)I" } : Jvm.MethodName)) ∈ lw_all := lw_g (lw_at lw_m10 96 rfl) rfl
theorem q2333 : (Jvm.Cond.methodLink "FigureSurveyLaw" (339 : Nat) ({ cls := "FigureSurveyLaw", name := "addWork", desc := "(LFigureSurvey;III[J)I" } : Jvm.MethodName)) ∈ lw_all := lw_g (lw_at lw_m10 100 rfl) rfl
theorem q2334 : (Jvm.Cond.static ({ cls := "FigureSurveyLaw", name := "addWork", desc := "(LFigureSurvey;III[J)I" } : Jvm.MethodName)) ∈ lw_all := lw_g (lw_at lw_m10 101 rfl) rfl
theorem q2335 : (Jvm.Cond.codeWith ({ cls := "FigureSurveyLaw", name := "addWork", desc := "(LFigureSurvey;III[J)I" } : Jvm.MethodName) method_48_code (6 : Nat) (Option.some Jvm.ClassFile.FieldType.int) [((0 : Nat), (12 : Nat), (15 : Nat), (21 : Nat)), ((0 : Nat), (12 : Nat), (19 : Nat), (13 : Nat)), ((0 : Nat), (12 : Nat), (23 : Nat), (15 : Nat))]) ∈ lw_all := lw_g (lw_at lw_m10 102 rfl) rfl
theorem q2336 : (Jvm.Cond.methodLink "FigureSurveyLaw" (162 : Nat) ({ cls := "FigureSurvey", name := "addWork", desc := "(III)I" } : Jvm.MethodName)) ∈ lw_all := lw_g (lw_at lw_m10 103 rfl) rfl
theorem q2362 : (Jvm.Cond.methodLink "FigureSurveyLaw" (342 : Nat) ({ cls := "FigureSurveyLaw", name := "worksFor", desc := "(LFigureSurvey;I[J)I" } : Jvm.MethodName)) ∈ lw_all := lw_g (lw_at lw_m10 129 rfl) rfl
theorem q2363 : (Jvm.Cond.static ({ cls := "FigureSurveyLaw", name := "worksFor", desc := "(LFigureSurvey;I[J)I" } : Jvm.MethodName)) ∈ lw_all := lw_g (lw_at lw_m10 130 rfl) rfl
theorem q2364 : (Jvm.Cond.codeWith ({ cls := "FigureSurveyLaw", name := "worksFor", desc := "(LFigureSurvey;I[J)I" } : Jvm.MethodName) method_49_code (4 : Nat) (Option.some Jvm.ClassFile.FieldType.int) [((0 : Nat), (9 : Nat), (12 : Nat), (13 : Nat))]) ∈ lw_all := lw_g (lw_at lw_m10 131 rfl) rfl
theorem q2365 : (Jvm.Cond.methodLink "FigureSurveyLaw" (165 : Nat) ({ cls := "FigureSurvey", name := "worksFor", desc := "(I)I" } : Jvm.MethodName)) ∈ lw_all := lw_g (lw_at lw_m10 132 rfl) rfl
theorem q2374 : (Jvm.Cond.methodLink "FigureSurveyLaw" (345 : Nat) ({ cls := "FigureSurveyLaw", name := "doWorks", desc := "(LFigureSurvey;I[J)I" } : Jvm.MethodName)) ∈ lw_all := lw_g (lw_at lw_m10 141 rfl) rfl
theorem q2375 : (Jvm.Cond.static ({ cls := "FigureSurveyLaw", name := "doWorks", desc := "(LFigureSurvey;I[J)I" } : Jvm.MethodName)) ∈ lw_all := lw_g (lw_at lw_m10 142 rfl) rfl
theorem q2376 : (Jvm.Cond.codeWith ({ cls := "FigureSurveyLaw", name := "doWorks", desc := "(LFigureSurvey;I[J)I" } : Jvm.MethodName) method_50_code (4 : Nat) (Option.some Jvm.ClassFile.FieldType.int) [((0 : Nat), (9 : Nat), (12 : Nat), (13 : Nat)), ((0 : Nat), (9 : Nat), (15 : Nat), (15 : Nat))]) ∈ lw_all := lw_g (lw_at lw_m10 143 rfl) rfl
theorem q2377 : (Jvm.Cond.methodLink "FigureSurveyLaw" (168 : Nat) ({ cls := "FigureSurvey", name := "doWorks", desc := "(I)I" } : Jvm.MethodName)) ∈ lw_all := lw_g (lw_at lw_m10 144 rfl) rfl
theorem q2381 : (Jvm.Cond.methodLink "FigureSurveyLaw" (348 : Nat) ({ cls := "FigureSurveyLaw", name := "setLoad", desc := "(LFigureSurvey;II[J)I" } : Jvm.MethodName)) ∈ lw_all := lw_g (lw_at lw_m10 148 rfl) rfl
theorem q2382 : (Jvm.Cond.static ({ cls := "FigureSurveyLaw", name := "setLoad", desc := "(LFigureSurvey;II[J)I" } : Jvm.MethodName)) ∈ lw_all := lw_g (lw_at lw_m10 149 rfl) rfl
theorem q2383 : (Jvm.Cond.codeWith ({ cls := "FigureSurveyLaw", name := "setLoad", desc := "(LFigureSurvey;II[J)I" } : Jvm.MethodName) method_51_code (5 : Nat) (Option.some Jvm.ClassFile.FieldType.int) [((0 : Nat), (10 : Nat), (13 : Nat), (21 : Nat)), ((0 : Nat), (10 : Nat), (17 : Nat), (13 : Nat))]) ∈ lw_all := lw_g (lw_at lw_m10 150 rfl) rfl
theorem q2384 : (Jvm.Cond.methodLink "FigureSurveyLaw" (171 : Nat) ({ cls := "FigureSurvey", name := "setLoad", desc := "(II)I" } : Jvm.MethodName)) ∈ lw_all := lw_g (lw_at lw_m10 151 rfl) rfl
theorem q2388 : (Jvm.Cond.methodLink "FigureSurveyLaw" (351 : Nat) ({ cls := "FigureSurveyLaw", name := "tour", desc := "(LFigureSurvey;II[J)I" } : Jvm.MethodName)) ∈ lw_all := lw_g (lw_at lw_m10 155 rfl) rfl
theorem q2389 : (Jvm.Cond.static ({ cls := "FigureSurveyLaw", name := "tour", desc := "(LFigureSurvey;II[J)I" } : Jvm.MethodName)) ∈ lw_all := lw_g (lw_at lw_m10 156 rfl) rfl
theorem q2390 : (Jvm.Cond.codeWith ({ cls := "FigureSurveyLaw", name := "tour", desc := "(LFigureSurvey;II[J)I" } : Jvm.MethodName) method_52_code (5 : Nat) (Option.some Jvm.ClassFile.FieldType.int) [((0 : Nat), (10 : Nat), (13 : Nat), (21 : Nat)), ((0 : Nat), (10 : Nat), (17 : Nat), (13 : Nat)), ((0 : Nat), (10 : Nat), (21 : Nat), (15 : Nat))]) ∈ lw_all := lw_g (lw_at lw_m10 157 rfl) rfl
theorem q2391 : (Jvm.Cond.methodLink "FigureSurveyLaw" (174 : Nat) ({ cls := "FigureSurvey", name := "tour", desc := "(II)I" } : Jvm.MethodName)) ∈ lw_all := lw_g (lw_at lw_m10 158 rfl) rfl
theorem q2395 : (Jvm.Cond.methodLink "FigureSurveyLaw" (354 : Nat) ({ cls := "FigureSurveyLaw", name := "tellDam", desc := "(LFigureSurvey;II[J)I" } : Jvm.MethodName)) ∈ lw_all := lw_g (lw_at lw_m10 162 rfl) rfl
theorem q2396 : (Jvm.Cond.static ({ cls := "FigureSurveyLaw", name := "tellDam", desc := "(LFigureSurvey;II[J)I" } : Jvm.MethodName)) ∈ lw_all := lw_g (lw_at lw_m10 163 rfl) rfl
theorem q2397 : (Jvm.Cond.codeWith ({ cls := "FigureSurveyLaw", name := "tellDam", desc := "(LFigureSurvey;II[J)I" } : Jvm.MethodName) method_53_code (5 : Nat) (Option.some Jvm.ClassFile.FieldType.int) [((0 : Nat), (10 : Nat), (13 : Nat), (13 : Nat)), ((0 : Nat), (10 : Nat), (17 : Nat), (15 : Nat))]) ∈ lw_all := lw_g (lw_at lw_m10 164 rfl) rfl
theorem q2398 : (Jvm.Cond.methodLink "FigureSurveyLaw" (177 : Nat) ({ cls := "FigureSurvey", name := "tellDam", desc := "(II)I" } : Jvm.MethodName)) ∈ lw_all := lw_g (lw_at lw_m10 165 rfl) rfl
theorem q2405 : (Jvm.Cond.methodLink "FigureSurveyLaw" (357 : Nat) ({ cls := "FigureSurveyLaw", name := "isDrowned", desc := "(LFigureSurvey;I[J)I" } : Jvm.MethodName)) ∈ lw_all := lw_g (lw_at lw_m10 172 rfl) rfl
theorem q2406 : (Jvm.Cond.static ({ cls := "FigureSurveyLaw", name := "isDrowned", desc := "(LFigureSurvey;I[J)I" } : Jvm.MethodName)) ∈ lw_all := lw_g (lw_at lw_m10 173 rfl) rfl
theorem q2407 : (Jvm.Cond.codeWith ({ cls := "FigureSurveyLaw", name := "isDrowned", desc := "(LFigureSurvey;I[J)I" } : Jvm.MethodName) method_54_code (4 : Nat) (Option.some Jvm.ClassFile.FieldType.int) [((0 : Nat), (16 : Nat), (19 : Nat), (21 : Nat))]) ∈ lw_all := lw_g (lw_at lw_m10 174 rfl) rfl
theorem q2408 : (Jvm.Cond.methodLink "FigureSurveyLaw" (180 : Nat) ({ cls := "FigureSurvey", name := "isDrowned", desc := "(I)Z" } : Jvm.MethodName)) ∈ lw_all := lw_g (lw_at lw_m10 175 rfl) rfl
theorem q2412 : (Jvm.Cond.classLink "FigureSurveyLaw" (185 : Nat) "FigureSurveyModel") ∈ lw_all := lw_g (lw_at lw_m10 179 rfl) rfl
theorem q2414 : (Jvm.Cond.methodLink "FigureSurveyLaw" (187 : Nat) ({ cls := "FigureSurveyModel", name := "<init>", desc := "()V" } : Jvm.MethodName)) ∈ lw_all := lw_g (lw_at lw_m10 181 rfl) rfl
theorem q2487 : (Jvm.Cond.methodLink "FigureSurveyLaw" (194 : Nat) ({ cls := "FigureSurveyModel", name := "thrown", desc := "()I" } : Jvm.MethodName)) ∈ lw_all := lw_g (lw_at lw_m11 14 rfl) rfl
theorem q2491 : (Jvm.Cond.methodLink "FigureSurveyLaw" (193 : Nat) ({ cls := "FigureSurveyModel", name := "addPanel", desc := "(I)I" } : Jvm.MethodName)) ∈ lw_all := lw_g (lw_at lw_m11 18 rfl) rfl
theorem q2504 : (Jvm.Cond.methodLink "FigureSurveyLaw" (201 : Nat) ({ cls := "FigureSurveyModel", name := "setDepth", desc := "(III)I" } : Jvm.MethodName)) ∈ lw_all := lw_g (lw_at lw_m11 31 rfl) rfl
theorem q2522 : (Jvm.Cond.methodLink "FigureSurveyLaw" (205 : Nat) ({ cls := "FigureSurveyModel", name := "light", desc := "(II)I" } : Jvm.MethodName)) ∈ lw_all := lw_g (lw_at lw_m11 49 rfl) rfl
theorem q2527 : (Jvm.Cond.methodLink "FigureSurveyLaw" (208 : Nat) ({ cls := "FigureSurveyModel", name := "seen", desc := "(II)I" } : Jvm.MethodName)) ∈ lw_all := lw_g (lw_at lw_m11 54 rfl) rfl
theorem q2536 : (Jvm.Cond.methodLink "FigureSurveyLaw" (211 : Nat) ({ cls := "FigureSurveyModel", name := "edges", desc := "(II)J" } : Jvm.MethodName)) ∈ lw_all := lw_g (lw_at lw_m11 63 rfl) rfl
theorem q2544 : (Jvm.Cond.methodLink "FigureSurveyLaw" (217 : Nat) ({ cls := "FigureSurveyModel", name := "addStroke", desc := "(IJ)I" } : Jvm.MethodName)) ∈ lw_all := lw_g (lw_at lw_m11 71 rfl) rfl
theorem q2548 : (Jvm.Cond.methodLink "FigureSurveyLaw" (220 : Nat) ({ cls := "FigureSurveyModel", name := "addFigure", desc := "(I)I" } : Jvm.MethodName)) ∈ lw_all := lw_g (lw_at lw_m11 75 rfl) rfl
theorem q2556 : (Jvm.Cond.methodLink "FigureSurveyLaw" (224 : Nat) ({ cls := "FigureSurveyModel", name := "setStroke", desc := "(IIZ)I" } : Jvm.MethodName)) ∈ lw_all := lw_g (lw_at lw_m11 83 rfl) rfl
theorem q2568 : (Jvm.Cond.methodLink "FigureSurveyLaw" (227 : Nat) ({ cls := "FigureSurveyModel", name := "cellsOf", desc := "(I)J" } : Jvm.MethodName)) ∈ lw_all := lw_g (lw_at lw_m11 95 rfl) rfl
theorem q2577 : (Jvm.Cond.methodLink "FigureSurveyLaw" (230 : Nat) ({ cls := "FigureSurveyModel", name := "foundShare", desc := "(I)I" } : Jvm.MethodName)) ∈ lw_all := lw_g (lw_at lw_m11 104 rfl) rfl
theorem q2582 : (Jvm.Cond.methodLink "FigureSurveyLaw" (233 : Nat) ({ cls := "FigureSurveyModel", name := "sharedCells", desc := "(II)I" } : Jvm.MethodName)) ∈ lw_all := lw_g (lw_at lw_m11 109 rfl) rfl
theorem q2586 : (Jvm.Cond.methodLink "FigureSurveyLaw" (236 : Nat) ({ cls := "FigureSurveyModel", name := "harm", desc := "(IJ)I" } : Jvm.MethodName)) ∈ lw_all := lw_g (lw_at lw_m11 113 rfl) rfl
theorem q2590 : (Jvm.Cond.methodLink "FigureSurveyLaw" (239 : Nat) ({ cls := "FigureSurveyModel", name := "cast", desc := "(I)I" } : Jvm.MethodName)) ∈ lw_all := lw_g (lw_at lw_m11 117 rfl) rfl
theorem q2594 : (Jvm.Cond.methodLink "FigureSurveyLaw" (243 : Nat) ({ cls := "FigureSurveyModel", name := "trace", desc := "(IIJ)I" } : Jvm.MethodName)) ∈ lw_all := lw_g (lw_at lw_m11 121 rfl) rfl
theorem q2598 : (Jvm.Cond.methodLink "FigureSurveyLaw" (246 : Nat) ({ cls := "FigureSurveyModel", name := "shiftOf", desc := "(I)I" } : Jvm.MethodName)) ∈ lw_all := lw_g (lw_at lw_m11 125 rfl) rfl
theorem q2613 : (Jvm.Cond.methodLink "FigureSurveyLaw" (249 : Nat) ({ cls := "FigureSurveyModel", name := "scoreOf", desc := "(I)I" } : Jvm.MethodName)) ∈ lw_all := lw_g (lw_at lw_m11 140 rfl) rfl
theorem q2621 : (Jvm.Cond.methodLink "FigureSurveyLaw" (252 : Nat) ({ cls := "FigureSurveyModel", name := "handScore", desc := "(I)I" } : Jvm.MethodName)) ∈ lw_all := lw_g (lw_at lw_m11 148 rfl) rfl
theorem q2625 : (Jvm.Cond.methodLink "FigureSurveyLaw" (255 : Nat) ({ cls := "FigureSurveyModel", name := "consensus", desc := "(I)J" } : Jvm.MethodName)) ∈ lw_all := lw_g (lw_at lw_m11 152 rfl) rfl
theorem q2629 : (Jvm.Cond.methodLink "FigureSurveyLaw" (258 : Nat) ({ cls := "FigureSurveyModel", name := "mark", desc := "(II)I" } : Jvm.MethodName)) ∈ lw_all := lw_g (lw_at lw_m11 156 rfl) rfl
theorem q2637 : (Jvm.Cond.methodLink "FigureSurveyLaw" (261 : Nat) ({ cls := "FigureSurveyModel", name := "clearMarks", desc := "(I)I" } : Jvm.MethodName)) ∈ lw_all := lw_g (lw_at lw_m11 164 rfl) rfl
theorem q2641 : (Jvm.Cond.methodLink "FigureSurveyLaw" (264 : Nat) ({ cls := "FigureSurveyModel", name := "doubtOf", desc := "(I)I" } : Jvm.MethodName)) ∈ lw_all := lw_g (lw_at lw_m11 168 rfl) rfl
theorem q2645 : (Jvm.Cond.methodLink "FigureSurveyLaw" (267 : Nat) ({ cls := "FigureSurveyModel", name := "setWeapon", desc := "(II)I" } : Jvm.MethodName)) ∈ lw_all := lw_g (lw_at lw_m11 172 rfl) rfl
theorem q2649 : (Jvm.Cond.methodLink "FigureSurveyLaw" (270 : Nat) ({ cls := "FigureSurveyModel", name := "setAnimal", desc := "(II)I" } : Jvm.MethodName)) ∈ lw_all := lw_g (lw_at lw_m11 176 rfl) rfl
theorem q2653 : (Jvm.Cond.methodLink "FigureSurveyLaw" (273 : Nat) ({ cls := "FigureSurveyModel", name := "findOver", desc := "(III)I" } : Jvm.MethodName)) ∈ lw_all := lw_g (lw_at lw_m11 180 rfl) rfl
theorem q2666 : (Jvm.Cond.methodLink "FigureSurveyLaw" (277 : Nat) ({ cls := "FigureSurveyModel", name := "findDate", desc := "(IIII)I" } : Jvm.MethodName)) ∈ lw_all := lw_g (lw_at lw_m11 193 rfl) rfl
theorem q2670 : (Jvm.Cond.methodLink "FigureSurveyLaw" (280 : Nat) ({ cls := "FigureSurveyModel", name := "remove", desc := "(I)I" } : Jvm.MethodName)) ∈ lw_all := lw_g (lw_at lw_m11 197 rfl) rfl
theorem q2678 : (Jvm.Cond.methodLink "FigureSurveyLaw" (283 : Nat) ({ cls := "FigureSurveyModel", name := "standOf", desc := "(I)I" } : Jvm.MethodName)) ∈ lw_all := lw_g (lw_at lw_m11 205 rfl) rfl
theorem q2758 : (Jvm.Cond.methodLink "FigureSurveyLaw" (286 : Nat) ({ cls := "FigureSurveyModel", name := "orderAt", desc := "(II)I" } : Jvm.MethodName)) ∈ lw_all := lw_g (lw_at lw_m12 45 rfl) rfl
theorem q2762 : (Jvm.Cond.methodLink "FigureSurveyLaw" (289 : Nat) ({ cls := "FigureSurveyModel", name := "brokenWeight", desc := "(I)I" } : Jvm.MethodName)) ∈ lw_all := lw_g (lw_at lw_m12 49 rfl) rfl
theorem q2770 : (Jvm.Cond.methodLink "FigureSurveyLaw" (292 : Nat) ({ cls := "FigureSurveyModel", name := "isAbove", desc := "(II)Z" } : Jvm.MethodName)) ∈ lw_all := lw_g (lw_at lw_m12 57 rfl) rfl
theorem q2775 : (Jvm.Cond.methodLink "FigureSurveyLaw" (295 : Nat) ({ cls := "FigureSurveyModel", name := "earliest", desc := "(I)I" } : Jvm.MethodName)) ∈ lw_all := lw_g (lw_at lw_m12 62 rfl) rfl
theorem q2788 : (Jvm.Cond.methodLink "FigureSurveyLaw" (298 : Nat) ({ cls := "FigureSurveyModel", name := "latest", desc := "(I)I" } : Jvm.MethodName)) ∈ lw_all := lw_g (lw_at lw_m12 75 rfl) rfl
theorem q2792 : (Jvm.Cond.methodLink "FigureSurveyLaw" (302 : Nat) ({ cls := "FigureSurveyModel", name := "reasonFor", desc := "(IZ)I" } : Jvm.MethodName)) ∈ lw_all := lw_g (lw_at lw_m12 79 rfl) rfl
theorem q2796 : (Jvm.Cond.methodLink "FigureSurveyLaw" (305 : Nat) ({ cls := "FigureSurveyModel", name := "setFeatures", desc := "(II)I" } : Jvm.MethodName)) ∈ lw_all := lw_g (lw_at lw_m12 83 rfl) rfl
theorem q2810 : (Jvm.Cond.methodLink "FigureSurveyLaw" (308 : Nat) ({ cls := "FigureSurveyModel", name := "addStyle", desc := "(I)I" } : Jvm.MethodName)) ∈ lw_all := lw_g (lw_at lw_m12 97 rfl) rfl
theorem q2815 : (Jvm.Cond.methodLink "FigureSurveyLaw" (311 : Nat) ({ cls := "FigureSurveyModel", name := "styleOf", desc := "(I)I" } : Jvm.MethodName)) ∈ lw_all := lw_g (lw_at lw_m12 102 rfl) rfl
theorem q2819 : (Jvm.Cond.methodLink "FigureSurveyLaw" (314 : Nat) ({ cls := "FigureSurveyModel", name := "addEntry", desc := "(II)I" } : Jvm.MethodName)) ∈ lw_all := lw_g (lw_at lw_m12 106 rfl) rfl
theorem q2823 : (Jvm.Cond.methodLink "FigureSurveyLaw" (317 : Nat) ({ cls := "FigureSurveyModel", name := "figureFor", desc := "(I)I" } : Jvm.MethodName)) ∈ lw_all := lw_g (lw_at lw_m12 110 rfl) rfl
theorem q2830 : (Jvm.Cond.methodLink "FigureSurveyLaw" (320 : Nat) ({ cls := "FigureSurveyModel", name := "tellName", desc := "(IIII)I" } : Jvm.MethodName)) ∈ lw_all := lw_g (lw_at lw_m12 117 rfl) rfl
theorem q2834 : (Jvm.Cond.methodLink "FigureSurveyLaw" (323 : Nat) ({ cls := "FigureSurveyModel", name := "nameFor", desc := "(III)I" } : Jvm.MethodName)) ∈ lw_all := lw_g (lw_at lw_m12 121 rfl) rfl
theorem q2838 : (Jvm.Cond.methodLink "FigureSurveyLaw" (326 : Nat) ({ cls := "FigureSurveyModel", name := "setRight", desc := "(IIZ)Z" } : Jvm.MethodName)) ∈ lw_all := lw_g (lw_at lw_m12 125 rfl) rfl
theorem q2842 : (Jvm.Cond.methodLink "FigureSurveyLaw" (329 : Nat) ({ cls := "FigureSurveyModel", name := "repaint", desc := "(II)I" } : Jvm.MethodName)) ∈ lw_all := lw_g (lw_at lw_m12 129 rfl) rfl
theorem q2846 : (Jvm.Cond.methodLink "FigureSurveyLaw" (332 : Nat) ({ cls := "FigureSurveyModel", name := "passYears", desc := "(I)I" } : Jvm.MethodName)) ∈ lw_all := lw_g (lw_at lw_m12 133 rfl) rfl
theorem q2854 : (Jvm.Cond.methodLink "FigureSurveyLaw" (335 : Nat) ({ cls := "FigureSurveyModel", name := "setDecay", desc := "(IIII)I" } : Jvm.MethodName)) ∈ lw_all := lw_g (lw_at lw_m12 141 rfl) rfl
theorem q2858 : (Jvm.Cond.methodLink "FigureSurveyLaw" (338 : Nat) ({ cls := "FigureSurveyModel", name := "healthOf", desc := "(I)I" } : Jvm.MethodName)) ∈ lw_all := lw_g (lw_at lw_m12 145 rfl) rfl
theorem q2862 : (Jvm.Cond.methodLink "FigureSurveyLaw" (341 : Nat) ({ cls := "FigureSurveyModel", name := "addWork", desc := "(III)I" } : Jvm.MethodName)) ∈ lw_all := lw_g (lw_at lw_m12 149 rfl) rfl
theorem q2866 : (Jvm.Cond.methodLink "FigureSurveyLaw" (344 : Nat) ({ cls := "FigureSurveyModel", name := "worksFor", desc := "(I)I" } : Jvm.MethodName)) ∈ lw_all := lw_g (lw_at lw_m12 153 rfl) rfl
theorem q2878 : (Jvm.Cond.methodLink "FigureSurveyLaw" (347 : Nat) ({ cls := "FigureSurveyModel", name := "doWorks", desc := "(I)I" } : Jvm.MethodName)) ∈ lw_all := lw_g (lw_at lw_m12 165 rfl) rfl
theorem q2882 : (Jvm.Cond.methodLink "FigureSurveyLaw" (350 : Nat) ({ cls := "FigureSurveyModel", name := "setLoad", desc := "(II)I" } : Jvm.MethodName)) ∈ lw_all := lw_g (lw_at lw_m12 169 rfl) rfl
theorem q2886 : (Jvm.Cond.methodLink "FigureSurveyLaw" (353 : Nat) ({ cls := "FigureSurveyModel", name := "tour", desc := "(II)I" } : Jvm.MethodName)) ∈ lw_all := lw_g (lw_at lw_m12 173 rfl) rfl
theorem q2890 : (Jvm.Cond.methodLink "FigureSurveyLaw" (356 : Nat) ({ cls := "FigureSurveyModel", name := "tellDam", desc := "(II)I" } : Jvm.MethodName)) ∈ lw_all := lw_g (lw_at lw_m12 177 rfl) rfl
theorem q2894 : (Jvm.Cond.methodLink "FigureSurveyLaw" (359 : Nat) ({ cls := "FigureSurveyModel", name := "isDrowned", desc := "(I)Z" } : Jvm.MethodName)) ∈ lw_all := lw_g (lw_at lw_m12 181 rfl) rfl
theorem q2898 : (Jvm.Cond.methodLink "FigureSurveyLaw" (363 : Nat) ({ cls := "FigureSurveyModel", name := "recordFirst", desc := "()I" } : Jvm.MethodName)) ∈ lw_all := lw_g (lw_at lw_m12 185 rfl) rfl
theorem q2902 : (Jvm.Cond.methodLink "FigureSurveyLaw" (367 : Nat) ({ cls := "FigureSurveyModel", name := "errors", desc := "()I" } : Jvm.MethodName)) ∈ lw_all := lw_g (lw_at lw_m12 189 rfl) rfl
theorem q2912 : (Jvm.Cond.methodLink "FigureSurveyLaw" (372 : Nat) ({ cls := "FigureSurveyModel", name := "meanSpan", desc := "()D" } : Jvm.MethodName)) ∈ lw_all := lw_g (lw_at lw_m12 199 rfl) rfl
theorem q2916 : (Jvm.Cond.methodLink "FigureSurveyLaw" (377 : Nat) ({ cls := "FigureSurveyModel", name := "heldShare", desc := "()F" } : Jvm.MethodName)) ∈ lw_all := lw_g (lw_at lw_m12 203 rfl) rfl
theorem q2920 : (Jvm.Cond.constantLong "FigureSurveyLaw" (212 : Nat) (4294967295 : Int64)) ∈ lw_all := lw_g (lw_at lw_m12 207 rfl) rfl
/-! FigureSurvey$Panel -/
set_option maxRecDepth 100000
def RX3 : String := "FigureSurvey$Panel"
def TX3 : u_T := fun k => match k with
  | 0 => ("FigureSurvey$Panel", "number", "I", true)
  | 1 => ("FigureSurvey$Panel", "height", "I", true)
  | 2 => ("FigureSurvey$Panel", "depth", "[I", true)
  | 3 => ("FigureSurvey$Panel", "lit", "I", false)
  | 4 => ("FigureSurvey$Panel", "harmed", "J", false)
  | 5 => ("FigureSurvey$Panel", "rights", "I", false)
  | 6 => ("FigureSurvey$Panel", "salts", "I", false)
  | 7 => ("FigureSurvey$Panel", "roots", "I", false)
  | 8 => ("FigureSurvey$Panel", "fire", "I", false)
  | 9 => ("FigureSurvey$Panel", "taken", "I", false)
  | 10 => ("FigureSurvey$Panel", "health", "I", false)
  | 11 => ("FigureSurvey$Panel", "load", "I", false)
  | _ => ("FigureSurvey$Panel", "visitors", "I", false)
def tyX3 : Nat → FieldType := fun k => match k with
  | 0 => .int
  | 1 => .int
  | 2 => .array .int
  | 3 => .int
  | 4 => .long
  | 5 => .int
  | 6 => .int
  | 7 => .int
  | 8 => .int
  | 9 => .int
  | 10 => .int
  | 11 => .int
  | _ => .int
abbrev wsX30 : List Cond := u_ws RX3 TX3 13
set_option maxRecDepth 100000 in
theorem nmX3 : ∀ a, a < 13 → ∀ b, b < 13 → a ≠ b → (TX3 a).2.1 ≠ (TX3 b).2.1 := by decide +kernel
set_option maxRecDepth 100000 in
theorem tyX3_ok : ∀ k, k < 13 → parseFieldDescriptor (TX3 k).2.2.1 = some (tyX3 k) := by decide +kernel
abbrev cX3_init : ByteArray := prog_9_method_1_code
def yX3_init : MethodName := ⟨RX3, "<init>", "(II)V"⟩
def dkwX3_init_1 : List UInt8 := [181, 0, 19, 42, 27, 181, 0, 22, 42, 28, 181, 0, 25, 177]
abbrev dktX3_init_1 : List UInt8 := dkwX3_init_1 ++ []
def dkwX3_init_0 : List UInt8 := [42, 183, 0, 3, 42, 16, 64, 188, 10, 181, 0, 9, 42, 17, 3, 232, 181, 0, 15, 42, 16, 100]
abbrev dktX3_init_0 : List UInt8 := dkwX3_init_0 ++ dktX3_init_1
theorem dksX3_init_0 : cX3_init.data.toList.drop 0 = dktX3_init_0 := by decide +kernel
theorem dksX3_init_1 : cX3_init.data.toList.drop 22 = dktX3_init_1 := dk_seg dksX3_init_0 22 rfl rfl
theorem dX3_init_0 : decode cX3_init 0 = .ok (.aload_n 0, 1) := dk_42 (dk_at dksX3_init_0 0 rfl rfl)
theorem dX3_init_1 : decode cX3_init 1 = .ok (.invokespecial 3, 3) := dk_183 0 3 (dk_at dksX3_init_0 1 rfl rfl)
theorem dX3_init_4 : decode cX3_init 4 = .ok (.aload_n 0, 1) := dk_42 (dk_at dksX3_init_0 4 rfl rfl)
theorem dX3_init_5 : decode cX3_init 5 = .ok (.bipush 64, 2) := dk_16 64 (dk_at dksX3_init_0 5 rfl rfl)
theorem dX3_init_7 : decode cX3_init 7 = .ok (.newarray .int, 2) := dk_188_10 (dk_at dksX3_init_0 7 rfl rfl)
theorem dX3_init_9 : decode cX3_init 9 = .ok (.putfield 9, 3) := dk_181 0 9 (dk_at dksX3_init_0 9 rfl rfl)
theorem dX3_init_12 : decode cX3_init 12 = .ok (.aload_n 0, 1) := dk_42 (dk_at dksX3_init_0 12 rfl rfl)
theorem dX3_init_13 : decode cX3_init 13 = .ok (.sipush 1000, 3) := dk_17 3 232 (dk_at dksX3_init_0 13 rfl rfl)
theorem dX3_init_16 : decode cX3_init 16 = .ok (.putfield 15, 3) := dk_181 0 15 (dk_at dksX3_init_0 16 rfl rfl)
theorem dX3_init_19 : decode cX3_init 19 = .ok (.aload_n 0, 1) := dk_42 (dk_at dksX3_init_0 19 rfl rfl)
theorem dX3_init_20 : decode cX3_init 20 = .ok (.bipush 100, 2) := dk_16 100 (dk_at dksX3_init_0 20 rfl rfl)
theorem dX3_init_22 : decode cX3_init 22 = .ok (.putfield 19, 3) := dk_181 0 19 (dk_at dksX3_init_1 0 rfl rfl)
theorem dX3_init_25 : decode cX3_init 25 = .ok (.aload_n 0, 1) := dk_42 (dk_at dksX3_init_1 3 rfl rfl)
theorem dX3_init_26 : decode cX3_init 26 = .ok (.iload_n 1, 1) := dk_27 (dk_at dksX3_init_1 4 rfl rfl)
theorem dX3_init_27 : decode cX3_init 27 = .ok (.putfield 22, 3) := dk_181 0 22 (dk_at dksX3_init_1 5 rfl rfl)
theorem dX3_init_30 : decode cX3_init 30 = .ok (.aload_n 0, 1) := dk_42 (dk_at dksX3_init_1 8 rfl rfl)
theorem dX3_init_31 : decode cX3_init 31 = .ok (.iload_n 2, 1) := dk_28 (dk_at dksX3_init_1 9 rfl rfl)
theorem dX3_init_32 : decode cX3_init 32 = .ok (.putfield 25, 3) := dk_181 0 25 (dk_at dksX3_init_1 10 rfl rfl)
theorem dX3_init_35 : decode cX3_init 35 = .ok (.return_, 1) := dk_177 (dk_at dksX3_init_1 13 rfl rfl)
abbrev cX3_seen : ByteArray := prog_9_method_4_code
def yX3_seen : MethodName := ⟨RX3, "seen", "(I)I"⟩
def dkwX3_seen_0 : List UInt8 := [7, 42, 27, 186, 0, 50, 0, 0, 184, 0, 54, 172]
abbrev dktX3_seen_0 : List UInt8 := dkwX3_seen_0 ++ []
theorem dksX3_seen_0 : cX3_seen.data.toList.drop 0 = dktX3_seen_0 := by decide +kernel
theorem dX3_seen_0 : decode cX3_seen 0 = .ok (.iconst 4, 1) := dk_7 (dk_at dksX3_seen_0 0 rfl rfl)
theorem dX3_seen_1 : decode cX3_seen 1 = .ok (.aload_n 0, 1) := dk_42 (dk_at dksX3_seen_0 1 rfl rfl)
theorem dX3_seen_2 : decode cX3_seen 2 = .ok (.iload_n 1, 1) := dk_27 (dk_at dksX3_seen_0 2 rfl rfl)
theorem dX3_seen_3 : decode cX3_seen 3 = .ok (.invokedynamic 50, 5) := by decide +kernel
theorem dX3_seen_8 : decode cX3_seen 8 = .ok (.invokestatic 54, 3) := dk_184 0 54 (dk_at dksX3_seen_0 8 rfl rfl)
theorem dX3_seen_11 : decode cX3_seen 11 = .ok (.ireturn, 1) := dk_172 (dk_at dksX3_seen_0 11 rfl rfl)
abbrev cX3_lambda_seen_0 : ByteArray := prog_9_method_6_code
def yX3_lambda_seen_0 : MethodName := ⟨RX3, "lambda$seen$0", "(II)Z"⟩
def dkwX3_lambda_seen_0_1 : List UInt8 := [3, 172]
abbrev dktX3_lambda_seen_0_1 : List UInt8 := dkwX3_lambda_seen_0_1 ++ []
def dkwX3_lambda_seen_0_0 : List UInt8 := [42, 180, 0, 61, 28, 184, 0, 64, 153, 0, 16, 42, 27, 28, 182, 0, 68, 153, 0, 7, 4, 167, 0, 4]
abbrev dktX3_lambda_seen_0_0 : List UInt8 := dkwX3_lambda_seen_0_0 ++ dktX3_lambda_seen_0_1
theorem dksX3_lambda_seen_0_0 : cX3_lambda_seen_0.data.toList.drop 0 = dktX3_lambda_seen_0_0 := by decide +kernel
theorem dksX3_lambda_seen_0_1 : cX3_lambda_seen_0.data.toList.drop 24 = dktX3_lambda_seen_0_1 := dk_seg dksX3_lambda_seen_0_0 24 rfl rfl
theorem dX3_lambda_seen_0_0 : decode cX3_lambda_seen_0 0 = .ok (.aload_n 0, 1) := dk_42 (dk_at dksX3_lambda_seen_0_0 0 rfl rfl)
theorem dX3_lambda_seen_0_1 : decode cX3_lambda_seen_0 1 = .ok (.getfield 61, 3) := dk_180 0 61 (dk_at dksX3_lambda_seen_0_0 1 rfl rfl)
theorem dX3_lambda_seen_0_4 : decode cX3_lambda_seen_0 4 = .ok (.iload_n 2, 1) := dk_28 (dk_at dksX3_lambda_seen_0_0 4 rfl rfl)
theorem dX3_lambda_seen_0_5 : decode cX3_lambda_seen_0 5 = .ok (.invokestatic 64, 3) := dk_184 0 64 (dk_at dksX3_lambda_seen_0_0 5 rfl rfl)
theorem dX3_lambda_seen_0_8 : decode cX3_lambda_seen_0 8 = .ok (.ifCond .eq 16, 3) := dk_153 0 16 (dk_at dksX3_lambda_seen_0_0 8 rfl rfl)
theorem dX3_lambda_seen_0_11 : decode cX3_lambda_seen_0 11 = .ok (.aload_n 0, 1) := dk_42 (dk_at dksX3_lambda_seen_0_0 11 rfl rfl)
theorem dX3_lambda_seen_0_12 : decode cX3_lambda_seen_0 12 = .ok (.iload_n 1, 1) := dk_27 (dk_at dksX3_lambda_seen_0_0 12 rfl rfl)
theorem dX3_lambda_seen_0_13 : decode cX3_lambda_seen_0 13 = .ok (.iload_n 2, 1) := dk_28 (dk_at dksX3_lambda_seen_0_0 13 rfl rfl)
theorem dX3_lambda_seen_0_14 : decode cX3_lambda_seen_0 14 = .ok (.invokevirtual 68, 3) := dk_182 0 68 (dk_at dksX3_lambda_seen_0_0 14 rfl rfl)
theorem dX3_lambda_seen_0_17 : decode cX3_lambda_seen_0 17 = .ok (.ifCond .eq 7, 3) := dk_153 0 7 (dk_at dksX3_lambda_seen_0_0 17 rfl rfl)
theorem dX3_lambda_seen_0_20 : decode cX3_lambda_seen_0 20 = .ok (.iconst 1, 1) := dk_4 (dk_at dksX3_lambda_seen_0_0 20 rfl rfl)
theorem dX3_lambda_seen_0_21 : decode cX3_lambda_seen_0 21 = .ok (.goto 4, 3) := dk_167 0 4 (dk_at dksX3_lambda_seen_0_0 21 rfl rfl)
theorem dX3_lambda_seen_0_24 : decode cX3_lambda_seen_0 24 = .ok (.iconst 0, 1) := dk_3 (dk_at dksX3_lambda_seen_0_1 0 rfl rfl)
theorem dX3_lambda_seen_0_25 : decode cX3_lambda_seen_0 25 = .ok (.ireturn, 1) := dk_172 (dk_at dksX3_lambda_seen_0_1 1 rfl rfl)
abbrev cX3_isEdge : ByteArray := prog_9_method_3_code
def yX3_isEdge : MethodName := ⟨RX3, "isEdge", "(II)Z"⟩
def dkwX3_isEdge_4 : List UInt8 := [6, 161, 0, 7, 4, 167, 0, 4, 3, 172]
abbrev dktX3_isEdge_4 : List UInt8 := dkwX3_isEdge_4 ++ []
def dkwX3_isEdge_3 : List UInt8 := [3, 172, 42, 180, 0, 9, 27, 46, 42, 180, 0, 9, 16, 8, 21, 4, 104, 29, 96, 46, 100, 184, 0, 46]
abbrev dktX3_isEdge_3 : List UInt8 := dkwX3_isEdge_3 ++ dktX3_isEdge_4
def dkwX3_isEdge_2 : List UInt8 := [54, 4, 29, 155, 0, 21, 29, 16, 8, 162, 0, 15, 21, 4, 155, 0, 10, 21, 4, 16, 8, 161, 0, 5]
abbrev dktX3_isEdge_2 : List UInt8 := dkwX3_isEdge_2 ++ dktX3_isEdge_3
def dkwX3_isEdge_1 : List UInt8 := [62, 27, 16, 8, 108, 28, 5, 160, 0, 7, 4, 167, 0, 12, 28, 154, 0, 7, 2, 167, 0, 4, 3, 96]
abbrev dktX3_isEdge_1 : List UInt8 := dkwX3_isEdge_1 ++ dktX3_isEdge_2
def dkwX3_isEdge_0 : List UInt8 := [27, 16, 8, 112, 28, 4, 160, 0, 7, 4, 167, 0, 13, 28, 6, 160, 0, 7, 2, 167, 0, 4, 3, 96]
abbrev dktX3_isEdge_0 : List UInt8 := dkwX3_isEdge_0 ++ dktX3_isEdge_1
theorem dksX3_isEdge_0 : cX3_isEdge.data.toList.drop 0 = dktX3_isEdge_0 := by decide +kernel
theorem dksX3_isEdge_1 : cX3_isEdge.data.toList.drop 24 = dktX3_isEdge_1 := dk_seg dksX3_isEdge_0 24 rfl rfl
theorem dksX3_isEdge_2 : cX3_isEdge.data.toList.drop 48 = dktX3_isEdge_2 := dk_seg dksX3_isEdge_1 24 rfl rfl
theorem dksX3_isEdge_3 : cX3_isEdge.data.toList.drop 72 = dktX3_isEdge_3 := dk_seg dksX3_isEdge_2 24 rfl rfl
theorem dksX3_isEdge_4 : cX3_isEdge.data.toList.drop 96 = dktX3_isEdge_4 := dk_seg dksX3_isEdge_3 24 rfl rfl
theorem dX3_isEdge_0 : decode cX3_isEdge 0 = .ok (.iload_n 1, 1) := dk_27 (dk_at dksX3_isEdge_0 0 rfl rfl)
theorem dX3_isEdge_1 : decode cX3_isEdge 1 = .ok (.bipush 8, 2) := dk_16 8 (dk_at dksX3_isEdge_0 1 rfl rfl)
theorem dX3_isEdge_3 : decode cX3_isEdge 3 = .ok (.irem, 1) := dk_112 (dk_at dksX3_isEdge_0 3 rfl rfl)
theorem dX3_isEdge_4 : decode cX3_isEdge 4 = .ok (.iload_n 2, 1) := dk_28 (dk_at dksX3_isEdge_0 4 rfl rfl)
theorem dX3_isEdge_5 : decode cX3_isEdge 5 = .ok (.iconst 1, 1) := dk_4 (dk_at dksX3_isEdge_0 5 rfl rfl)
theorem dX3_isEdge_6 : decode cX3_isEdge 6 = .ok (.if_icmp .ne 7, 3) := dk_160 0 7 (dk_at dksX3_isEdge_0 6 rfl rfl)
theorem dX3_isEdge_9 : decode cX3_isEdge 9 = .ok (.iconst 1, 1) := dk_4 (dk_at dksX3_isEdge_0 9 rfl rfl)
theorem dX3_isEdge_10 : decode cX3_isEdge 10 = .ok (.goto 13, 3) := dk_167 0 13 (dk_at dksX3_isEdge_0 10 rfl rfl)
theorem dX3_isEdge_13 : decode cX3_isEdge 13 = .ok (.iload_n 2, 1) := dk_28 (dk_at dksX3_isEdge_0 13 rfl rfl)
theorem dX3_isEdge_14 : decode cX3_isEdge 14 = .ok (.iconst 3, 1) := dk_6 (dk_at dksX3_isEdge_0 14 rfl rfl)
theorem dX3_isEdge_15 : decode cX3_isEdge 15 = .ok (.if_icmp .ne 7, 3) := dk_160 0 7 (dk_at dksX3_isEdge_0 15 rfl rfl)
theorem dX3_isEdge_18 : decode cX3_isEdge 18 = .ok (.iconst (-1), 1) := dk_2 (dk_at dksX3_isEdge_0 18 rfl rfl)
theorem dX3_isEdge_19 : decode cX3_isEdge 19 = .ok (.goto 4, 3) := dk_167 0 4 (dk_at dksX3_isEdge_0 19 rfl rfl)
theorem dX3_isEdge_22 : decode cX3_isEdge 22 = .ok (.iconst 0, 1) := dk_3 (dk_at dksX3_isEdge_0 22 rfl rfl)
theorem dX3_isEdge_23 : decode cX3_isEdge 23 = .ok (.iadd, 1) := dk_96 (dk_at dksX3_isEdge_0 23 rfl rfl)
theorem dX3_isEdge_24 : decode cX3_isEdge 24 = .ok (.istore_n 3, 1) := dk_62 (dk_at dksX3_isEdge_1 0 rfl rfl)
theorem dX3_isEdge_25 : decode cX3_isEdge 25 = .ok (.iload_n 1, 1) := dk_27 (dk_at dksX3_isEdge_1 1 rfl rfl)
theorem dX3_isEdge_26 : decode cX3_isEdge 26 = .ok (.bipush 8, 2) := dk_16 8 (dk_at dksX3_isEdge_1 2 rfl rfl)
theorem dX3_isEdge_28 : decode cX3_isEdge 28 = .ok (.idiv, 1) := dk_108 (dk_at dksX3_isEdge_1 4 rfl rfl)
theorem dX3_isEdge_29 : decode cX3_isEdge 29 = .ok (.iload_n 2, 1) := dk_28 (dk_at dksX3_isEdge_1 5 rfl rfl)
theorem dX3_isEdge_30 : decode cX3_isEdge 30 = .ok (.iconst 2, 1) := dk_5 (dk_at dksX3_isEdge_1 6 rfl rfl)
theorem dX3_isEdge_31 : decode cX3_isEdge 31 = .ok (.if_icmp .ne 7, 3) := dk_160 0 7 (dk_at dksX3_isEdge_1 7 rfl rfl)
theorem dX3_isEdge_34 : decode cX3_isEdge 34 = .ok (.iconst 1, 1) := dk_4 (dk_at dksX3_isEdge_1 10 rfl rfl)
theorem dX3_isEdge_35 : decode cX3_isEdge 35 = .ok (.goto 12, 3) := dk_167 0 12 (dk_at dksX3_isEdge_1 11 rfl rfl)
theorem dX3_isEdge_38 : decode cX3_isEdge 38 = .ok (.iload_n 2, 1) := dk_28 (dk_at dksX3_isEdge_1 14 rfl rfl)
theorem dX3_isEdge_39 : decode cX3_isEdge 39 = .ok (.ifCond .ne 7, 3) := dk_154 0 7 (dk_at dksX3_isEdge_1 15 rfl rfl)
theorem dX3_isEdge_42 : decode cX3_isEdge 42 = .ok (.iconst (-1), 1) := dk_2 (dk_at dksX3_isEdge_1 18 rfl rfl)
theorem dX3_isEdge_43 : decode cX3_isEdge 43 = .ok (.goto 4, 3) := dk_167 0 4 (dk_at dksX3_isEdge_1 19 rfl rfl)
theorem dX3_isEdge_46 : decode cX3_isEdge 46 = .ok (.iconst 0, 1) := dk_3 (dk_at dksX3_isEdge_1 22 rfl rfl)
theorem dX3_isEdge_47 : decode cX3_isEdge 47 = .ok (.iadd, 1) := dk_96 (dk_at dksX3_isEdge_1 23 rfl rfl)
theorem dX3_isEdge_48 : decode cX3_isEdge 48 = .ok (.istore 4, 2) := dk_54 4 (dk_at dksX3_isEdge_2 0 rfl rfl)
theorem dX3_isEdge_50 : decode cX3_isEdge 50 = .ok (.iload_n 3, 1) := dk_29 (dk_at dksX3_isEdge_2 2 rfl rfl)
theorem dX3_isEdge_51 : decode cX3_isEdge 51 = .ok (.ifCond .lt 21, 3) := dk_155 0 21 (dk_at dksX3_isEdge_2 3 rfl rfl)
theorem dX3_isEdge_54 : decode cX3_isEdge 54 = .ok (.iload_n 3, 1) := dk_29 (dk_at dksX3_isEdge_2 6 rfl rfl)
theorem dX3_isEdge_55 : decode cX3_isEdge 55 = .ok (.bipush 8, 2) := dk_16 8 (dk_at dksX3_isEdge_2 7 rfl rfl)
theorem dX3_isEdge_57 : decode cX3_isEdge 57 = .ok (.if_icmp .ge 15, 3) := dk_162 0 15 (dk_at dksX3_isEdge_2 9 rfl rfl)
theorem dX3_isEdge_60 : decode cX3_isEdge 60 = .ok (.iload 4, 2) := dk_21 4 (dk_at dksX3_isEdge_2 12 rfl rfl)
theorem dX3_isEdge_62 : decode cX3_isEdge 62 = .ok (.ifCond .lt 10, 3) := dk_155 0 10 (dk_at dksX3_isEdge_2 14 rfl rfl)
theorem dX3_isEdge_65 : decode cX3_isEdge 65 = .ok (.iload 4, 2) := dk_21 4 (dk_at dksX3_isEdge_2 17 rfl rfl)
theorem dX3_isEdge_67 : decode cX3_isEdge 67 = .ok (.bipush 8, 2) := dk_16 8 (dk_at dksX3_isEdge_2 19 rfl rfl)
theorem dX3_isEdge_69 : decode cX3_isEdge 69 = .ok (.if_icmp .lt 5, 3) := dk_161 0 5 (dk_at dksX3_isEdge_2 21 rfl rfl)
theorem dX3_isEdge_72 : decode cX3_isEdge 72 = .ok (.iconst 0, 1) := dk_3 (dk_at dksX3_isEdge_3 0 rfl rfl)
theorem dX3_isEdge_73 : decode cX3_isEdge 73 = .ok (.ireturn, 1) := dk_172 (dk_at dksX3_isEdge_3 1 rfl rfl)
theorem dX3_isEdge_74 : decode cX3_isEdge 74 = .ok (.aload_n 0, 1) := dk_42 (dk_at dksX3_isEdge_3 2 rfl rfl)
theorem dX3_isEdge_75 : decode cX3_isEdge 75 = .ok (.getfield 9, 3) := dk_180 0 9 (dk_at dksX3_isEdge_3 3 rfl rfl)
theorem dX3_isEdge_78 : decode cX3_isEdge 78 = .ok (.iload_n 1, 1) := dk_27 (dk_at dksX3_isEdge_3 6 rfl rfl)
theorem dX3_isEdge_79 : decode cX3_isEdge 79 = .ok (.iaload, 1) := dk_46 (dk_at dksX3_isEdge_3 7 rfl rfl)
theorem dX3_isEdge_80 : decode cX3_isEdge 80 = .ok (.aload_n 0, 1) := dk_42 (dk_at dksX3_isEdge_3 8 rfl rfl)
theorem dX3_isEdge_81 : decode cX3_isEdge 81 = .ok (.getfield 9, 3) := dk_180 0 9 (dk_at dksX3_isEdge_3 9 rfl rfl)
theorem dX3_isEdge_84 : decode cX3_isEdge 84 = .ok (.bipush 8, 2) := dk_16 8 (dk_at dksX3_isEdge_3 12 rfl rfl)
theorem dX3_isEdge_86 : decode cX3_isEdge 86 = .ok (.iload 4, 2) := dk_21 4 (dk_at dksX3_isEdge_3 14 rfl rfl)
theorem dX3_isEdge_88 : decode cX3_isEdge 88 = .ok (.imul, 1) := dk_104 (dk_at dksX3_isEdge_3 16 rfl rfl)
theorem dX3_isEdge_89 : decode cX3_isEdge 89 = .ok (.iload_n 3, 1) := dk_29 (dk_at dksX3_isEdge_3 17 rfl rfl)
theorem dX3_isEdge_90 : decode cX3_isEdge 90 = .ok (.iadd, 1) := dk_96 (dk_at dksX3_isEdge_3 18 rfl rfl)
theorem dX3_isEdge_91 : decode cX3_isEdge 91 = .ok (.iaload, 1) := dk_46 (dk_at dksX3_isEdge_3 19 rfl rfl)
theorem dX3_isEdge_92 : decode cX3_isEdge 92 = .ok (.isub, 1) := dk_100 (dk_at dksX3_isEdge_3 20 rfl rfl)
theorem dX3_isEdge_93 : decode cX3_isEdge 93 = .ok (.invokestatic 46, 3) := dk_184 0 46 (dk_at dksX3_isEdge_3 21 rfl rfl)
theorem dX3_isEdge_96 : decode cX3_isEdge 96 = .ok (.iconst 3, 1) := dk_6 (dk_at dksX3_isEdge_4 0 rfl rfl)
theorem dX3_isEdge_97 : decode cX3_isEdge 97 = .ok (.if_icmp .lt 7, 3) := dk_161 0 7 (dk_at dksX3_isEdge_4 1 rfl rfl)
theorem dX3_isEdge_100 : decode cX3_isEdge 100 = .ok (.iconst 1, 1) := dk_4 (dk_at dksX3_isEdge_4 4 rfl rfl)
theorem dX3_isEdge_101 : decode cX3_isEdge 101 = .ok (.goto 4, 3) := dk_167 0 4 (dk_at dksX3_isEdge_4 5 rfl rfl)
theorem dX3_isEdge_104 : decode cX3_isEdge 104 = .ok (.iconst 0, 1) := dk_3 (dk_at dksX3_isEdge_4 8 rfl rfl)
theorem dX3_isEdge_105 : decode cX3_isEdge 105 = .ok (.ireturn, 1) := dk_172 (dk_at dksX3_isEdge_4 9 rfl rfl)
abbrev cX3_edges : ByteArray := prog_9_method_5_code
def yX3_edges : MethodName := ⟨RX3, "edges", "(I)J"⟩
def dkwX3_edges_1 : List UInt8 := [21, 4, 121, 129, 65, 132, 4, 1, 167, 255, 229, 32, 173]
abbrev dktX3_edges_1 : List UInt8 := dkwX3_edges_1 ++ []
def dkwX3_edges_0 : List UInt8 := [9, 65, 3, 54, 4, 21, 4, 16, 64, 162, 0, 26, 42, 21, 4, 182, 0, 58, 27, 161, 0, 10, 32, 10]
abbrev dktX3_edges_0 : List UInt8 := dkwX3_edges_0 ++ dktX3_edges_1
theorem dksX3_edges_0 : cX3_edges.data.toList.drop 0 = dktX3_edges_0 := by decide +kernel
theorem dksX3_edges_1 : cX3_edges.data.toList.drop 24 = dktX3_edges_1 := dk_seg dksX3_edges_0 24 rfl rfl
theorem dX3_edges_0 : decode cX3_edges 0 = .ok (.lconst 0, 1) := dk_9 (dk_at dksX3_edges_0 0 rfl rfl)
theorem dX3_edges_1 : decode cX3_edges 1 = .ok (.lstore_n 2, 1) := dk_65 (dk_at dksX3_edges_0 1 rfl rfl)
theorem dX3_edges_2 : decode cX3_edges 2 = .ok (.iconst 0, 1) := dk_3 (dk_at dksX3_edges_0 2 rfl rfl)
theorem dX3_edges_3 : decode cX3_edges 3 = .ok (.istore 4, 2) := dk_54 4 (dk_at dksX3_edges_0 3 rfl rfl)
theorem dX3_edges_5 : decode cX3_edges 5 = .ok (.iload 4, 2) := dk_21 4 (dk_at dksX3_edges_0 5 rfl rfl)
theorem dX3_edges_7 : decode cX3_edges 7 = .ok (.bipush 64, 2) := dk_16 64 (dk_at dksX3_edges_0 7 rfl rfl)
theorem dX3_edges_9 : decode cX3_edges 9 = .ok (.if_icmp .ge 26, 3) := dk_162 0 26 (dk_at dksX3_edges_0 9 rfl rfl)
theorem dX3_edges_12 : decode cX3_edges 12 = .ok (.aload_n 0, 1) := dk_42 (dk_at dksX3_edges_0 12 rfl rfl)
theorem dX3_edges_13 : decode cX3_edges 13 = .ok (.iload 4, 2) := dk_21 4 (dk_at dksX3_edges_0 13 rfl rfl)
theorem dX3_edges_15 : decode cX3_edges 15 = .ok (.invokevirtual 58, 3) := dk_182 0 58 (dk_at dksX3_edges_0 15 rfl rfl)
theorem dX3_edges_18 : decode cX3_edges 18 = .ok (.iload_n 1, 1) := dk_27 (dk_at dksX3_edges_0 18 rfl rfl)
theorem dX3_edges_19 : decode cX3_edges 19 = .ok (.if_icmp .lt 10, 3) := dk_161 0 10 (dk_at dksX3_edges_0 19 rfl rfl)
theorem dX3_edges_22 : decode cX3_edges 22 = .ok (.lload_n 2, 1) := dk_32 (dk_at dksX3_edges_0 22 rfl rfl)
theorem dX3_edges_23 : decode cX3_edges 23 = .ok (.lconst 1, 1) := dk_10 (dk_at dksX3_edges_0 23 rfl rfl)
theorem dX3_edges_24 : decode cX3_edges 24 = .ok (.iload 4, 2) := dk_21 4 (dk_at dksX3_edges_1 0 rfl rfl)
theorem dX3_edges_26 : decode cX3_edges 26 = .ok (.lshl, 1) := dk_121 (dk_at dksX3_edges_1 2 rfl rfl)
theorem dX3_edges_27 : decode cX3_edges 27 = .ok (.lor, 1) := dk_129 (dk_at dksX3_edges_1 3 rfl rfl)
theorem dX3_edges_28 : decode cX3_edges 28 = .ok (.lstore_n 2, 1) := dk_65 (dk_at dksX3_edges_1 4 rfl rfl)
theorem dX3_edges_29 : decode cX3_edges 29 = .ok (.iinc 4 1, 3) := dk_132 4 1 (dk_at dksX3_edges_1 5 rfl rfl)
theorem dX3_edges_32 : decode cX3_edges 32 = .ok (.goto (-27), 3) := dk_167 255 229 (dk_at dksX3_edges_1 8 rfl rfl)
theorem dX3_edges_35 : decode cX3_edges 35 = .ok (.lload_n 2, 1) := dk_32 (dk_at dksX3_edges_1 11 rfl rfl)
theorem dX3_edges_36 : decode cX3_edges 36 = .ok (.lreturn, 1) := dk_173 (dk_at dksX3_edges_1 12 rfl rfl)
abbrev cX3_decay : ByteArray := prog_9_method_2_code
def yX3_decay : MethodName := ⟨RX3, "decay", "()I"⟩
def dkwX3_decay_1 : List UInt8 := [184, 0, 40, 172]
abbrev dktX3_decay_1 : List UInt8 := dkwX3_decay_1 ++ []
def dkwX3_decay_0 : List UInt8 := [3, 6, 42, 180, 0, 28, 104, 5, 42, 180, 0, 31, 104, 96, 42, 180, 0, 34, 96, 42, 180, 0, 37, 100]
abbrev dktX3_decay_0 : List UInt8 := dkwX3_decay_0 ++ dktX3_decay_1
theorem dksX3_decay_0 : cX3_decay.data.toList.drop 0 = dktX3_decay_0 := by decide +kernel
theorem dksX3_decay_1 : cX3_decay.data.toList.drop 24 = dktX3_decay_1 := dk_seg dksX3_decay_0 24 rfl rfl
theorem dX3_decay_0 : decode cX3_decay 0 = .ok (.iconst 0, 1) := dk_3 (dk_at dksX3_decay_0 0 rfl rfl)
theorem dX3_decay_1 : decode cX3_decay 1 = .ok (.iconst 3, 1) := dk_6 (dk_at dksX3_decay_0 1 rfl rfl)
theorem dX3_decay_2 : decode cX3_decay 2 = .ok (.aload_n 0, 1) := dk_42 (dk_at dksX3_decay_0 2 rfl rfl)
theorem dX3_decay_3 : decode cX3_decay 3 = .ok (.getfield 28, 3) := dk_180 0 28 (dk_at dksX3_decay_0 3 rfl rfl)
theorem dX3_decay_6 : decode cX3_decay 6 = .ok (.imul, 1) := dk_104 (dk_at dksX3_decay_0 6 rfl rfl)
theorem dX3_decay_7 : decode cX3_decay 7 = .ok (.iconst 2, 1) := dk_5 (dk_at dksX3_decay_0 7 rfl rfl)
theorem dX3_decay_8 : decode cX3_decay 8 = .ok (.aload_n 0, 1) := dk_42 (dk_at dksX3_decay_0 8 rfl rfl)
theorem dX3_decay_9 : decode cX3_decay 9 = .ok (.getfield 31, 3) := dk_180 0 31 (dk_at dksX3_decay_0 9 rfl rfl)
theorem dX3_decay_12 : decode cX3_decay 12 = .ok (.imul, 1) := dk_104 (dk_at dksX3_decay_0 12 rfl rfl)
theorem dX3_decay_13 : decode cX3_decay 13 = .ok (.iadd, 1) := dk_96 (dk_at dksX3_decay_0 13 rfl rfl)
theorem dX3_decay_14 : decode cX3_decay 14 = .ok (.aload_n 0, 1) := dk_42 (dk_at dksX3_decay_0 14 rfl rfl)
theorem dX3_decay_15 : decode cX3_decay 15 = .ok (.getfield 34, 3) := dk_180 0 34 (dk_at dksX3_decay_0 15 rfl rfl)
theorem dX3_decay_18 : decode cX3_decay 18 = .ok (.iadd, 1) := dk_96 (dk_at dksX3_decay_0 18 rfl rfl)
theorem dX3_decay_19 : decode cX3_decay 19 = .ok (.aload_n 0, 1) := dk_42 (dk_at dksX3_decay_0 19 rfl rfl)
theorem dX3_decay_20 : decode cX3_decay 20 = .ok (.getfield 37, 3) := dk_180 0 37 (dk_at dksX3_decay_0 20 rfl rfl)
theorem dX3_decay_23 : decode cX3_decay 23 = .ok (.isub, 1) := dk_100 (dk_at dksX3_decay_0 23 rfl rfl)
theorem dX3_decay_24 : decode cX3_decay 24 = .ok (.invokestatic 40, 3) := dk_184 0 40 (dk_at dksX3_decay_1 0 rfl rfl)
theorem dX3_decay_27 : decode cX3_decay 27 = .ok (.ireturn, 1) := dk_172 (dk_at dksX3_decay_1 3 rfl rfl)
theorem q86 : (Jvm.Cond.initialized "FigureSurvey$Panel") ∈ lw_all := lw_g (lw_at lw_m1 13 rfl) rfl
theorem q443 : (Jvm.Cond.selects "FigureSurvey$Panel" ({ cls := "java/lang/Object", name := "getClass", desc := "()Ljava/lang/Class;" } : Jvm.MethodName) ({ cls := "java/lang/Object", name := "getClass", desc := "()Ljava/lang/Class;" } : Jvm.MethodName)) ∈ lw_all := lw_g (lw_at lw_m2 130 rfl) rfl
theorem q1213 : (Jvm.Cond.selects "FigureSurvey$Panel" ({ cls := "java/lang/Object", name := "equals", desc := "(Ljava/lang/Object;)Z" } : Jvm.MethodName) ({ cls := "java/lang/Object", name := "equals", desc := "(Ljava/lang/Object;)Z" } : Jvm.MethodName)) ∈ lw_all := lw_g (lw_at lw_m5 180 rfl) rfl
theorem q1615 : (Jvm.Cond.instantiable "FigureSurvey$Panel" (13 : Nat)) ∈ lw_all := lw_g (lw_at lw_m7 102 rfl) rfl
theorem q1617 : (Jvm.Cond.instanceMethod ({ cls := "FigureSurvey$Panel", name := "<init>", desc := "(II)V" } : Jvm.MethodName)) ∈ lw_all := lw_g (lw_at lw_m7 104 rfl) rfl
theorem q1618 : (Jvm.Cond.code ({ cls := "FigureSurvey$Panel", name := "<init>", desc := "(II)V" } : Jvm.MethodName) prog_9_method_1_code (3 : Nat) (Option.none : Option Jvm.ClassFile.FieldType)) ∈ lw_all := lw_g (lw_at lw_m7 105 rfl) rfl
theorem q1619 : (Jvm.Cond.methodLink "FigureSurvey$Panel" (3 : Nat) ({ cls := "java/lang/Object", name := "<init>", desc := "()V" } : Jvm.MethodName)) ∈ lw_all := lw_g (lw_at lw_m7 106 rfl) rfl
theorem q1620 : (Jvm.Cond.fieldLink "FigureSurvey$Panel" (22 : Nat) "FigureSurvey$Panel" "number" "I") ∈ lw_all := lw_g (lw_at lw_m7 107 rfl) rfl
theorem q1623 : (Jvm.Cond.fieldLink "FigureSurvey$Panel" (25 : Nat) "FigureSurvey$Panel" "height" "I") ∈ lw_all := lw_g (lw_at lw_m7 110 rfl) rfl
theorem q1626 : (Jvm.Cond.fieldLink "FigureSurvey$Panel" (9 : Nat) "FigureSurvey$Panel" "depth" "[I") ∈ lw_all := lw_g (lw_at lw_m7 113 rfl) rfl
theorem q1628 : (Jvm.Cond.fieldLink "FigureSurvey$Panel" (61 : Nat) "FigureSurvey$Panel" "lit" "I") ∈ lw_all := lw_g (lw_at lw_m7 115 rfl) rfl
theorem q1633 : (Jvm.Cond.fieldLink "FigureSurvey$Panel" (28 : Nat) "FigureSurvey$Panel" "salts" "I") ∈ lw_all := lw_g (lw_at lw_m7 120 rfl) rfl
theorem q1635 : (Jvm.Cond.fieldLink "FigureSurvey$Panel" (31 : Nat) "FigureSurvey$Panel" "roots" "I") ∈ lw_all := lw_g (lw_at lw_m7 122 rfl) rfl
theorem q1637 : (Jvm.Cond.fieldLink "FigureSurvey$Panel" (34 : Nat) "FigureSurvey$Panel" "fire" "I") ∈ lw_all := lw_g (lw_at lw_m7 124 rfl) rfl
theorem q1639 : (Jvm.Cond.fieldLink "FigureSurvey$Panel" (37 : Nat) "FigureSurvey$Panel" "taken" "I") ∈ lw_all := lw_g (lw_at lw_m7 126 rfl) rfl
theorem q1641 : (Jvm.Cond.fieldLink "FigureSurvey$Panel" (15 : Nat) "FigureSurvey$Panel" "health" "I") ∈ lw_all := lw_g (lw_at lw_m7 128 rfl) rfl
theorem q1643 : (Jvm.Cond.fieldLink "FigureSurvey$Panel" (19 : Nat) "FigureSurvey$Panel" "load" "I") ∈ lw_all := lw_g (lw_at lw_m7 130 rfl) rfl
theorem q1646 : (Jvm.Cond.laysFinal "FigureSurvey$Panel" "FigureSurvey$Panel" "number" "I") ∈ lw_all := lw_g (lw_at lw_m7 133 rfl) rfl
theorem q1647 : (Jvm.Cond.soleField "FigureSurvey$Panel" "number") ∈ lw_all := lw_g (lw_at lw_m7 134 rfl) rfl
theorem q1648 : (Jvm.Cond.laysFinal "FigureSurvey$Panel" "FigureSurvey$Panel" "height" "I") ∈ lw_all := lw_g (lw_at lw_m7 135 rfl) rfl
theorem q1649 : (Jvm.Cond.soleField "FigureSurvey$Panel" "height") ∈ lw_all := lw_g (lw_at lw_m7 136 rfl) rfl
theorem q1650 : (Jvm.Cond.laysFinal "FigureSurvey$Panel" "FigureSurvey$Panel" "depth" "[I") ∈ lw_all := lw_g (lw_at lw_m7 137 rfl) rfl
theorem q1651 : (Jvm.Cond.soleField "FigureSurvey$Panel" "depth") ∈ lw_all := lw_g (lw_at lw_m7 138 rfl) rfl
theorem q1652 : (Jvm.Cond.lays "FigureSurvey$Panel" "FigureSurvey$Panel" "lit" "I") ∈ lw_all := lw_g (lw_at lw_m7 139 rfl) rfl
theorem q1653 : (Jvm.Cond.soleField "FigureSurvey$Panel" "lit") ∈ lw_all := lw_g (lw_at lw_m7 140 rfl) rfl
theorem q1654 : (Jvm.Cond.lays "FigureSurvey$Panel" "FigureSurvey$Panel" "harmed" "J") ∈ lw_all := lw_g (lw_at lw_m7 141 rfl) rfl
theorem q1655 : (Jvm.Cond.soleField "FigureSurvey$Panel" "harmed") ∈ lw_all := lw_g (lw_at lw_m7 142 rfl) rfl
theorem q1656 : (Jvm.Cond.lays "FigureSurvey$Panel" "FigureSurvey$Panel" "rights" "I") ∈ lw_all := lw_g (lw_at lw_m7 143 rfl) rfl
theorem q1657 : (Jvm.Cond.soleField "FigureSurvey$Panel" "rights") ∈ lw_all := lw_g (lw_at lw_m7 144 rfl) rfl
theorem q1658 : (Jvm.Cond.lays "FigureSurvey$Panel" "FigureSurvey$Panel" "salts" "I") ∈ lw_all := lw_g (lw_at lw_m7 145 rfl) rfl
theorem q1659 : (Jvm.Cond.soleField "FigureSurvey$Panel" "salts") ∈ lw_all := lw_g (lw_at lw_m7 146 rfl) rfl
theorem q1660 : (Jvm.Cond.lays "FigureSurvey$Panel" "FigureSurvey$Panel" "roots" "I") ∈ lw_all := lw_g (lw_at lw_m7 147 rfl) rfl
theorem q1661 : (Jvm.Cond.soleField "FigureSurvey$Panel" "roots") ∈ lw_all := lw_g (lw_at lw_m7 148 rfl) rfl
theorem q1662 : (Jvm.Cond.lays "FigureSurvey$Panel" "FigureSurvey$Panel" "fire" "I") ∈ lw_all := lw_g (lw_at lw_m7 149 rfl) rfl
theorem q1663 : (Jvm.Cond.soleField "FigureSurvey$Panel" "fire") ∈ lw_all := lw_g (lw_at lw_m7 150 rfl) rfl
theorem q1664 : (Jvm.Cond.lays "FigureSurvey$Panel" "FigureSurvey$Panel" "taken" "I") ∈ lw_all := lw_g (lw_at lw_m7 151 rfl) rfl
theorem q1665 : (Jvm.Cond.soleField "FigureSurvey$Panel" "taken") ∈ lw_all := lw_g (lw_at lw_m7 152 rfl) rfl
theorem q1666 : (Jvm.Cond.lays "FigureSurvey$Panel" "FigureSurvey$Panel" "health" "I") ∈ lw_all := lw_g (lw_at lw_m7 153 rfl) rfl
theorem q1667 : (Jvm.Cond.soleField "FigureSurvey$Panel" "health") ∈ lw_all := lw_g (lw_at lw_m7 154 rfl) rfl
theorem q1668 : (Jvm.Cond.lays "FigureSurvey$Panel" "FigureSurvey$Panel" "load" "I") ∈ lw_all := lw_g (lw_at lw_m7 155 rfl) rfl
theorem q1669 : (Jvm.Cond.soleField "FigureSurvey$Panel" "load") ∈ lw_all := lw_g (lw_at lw_m7 156 rfl) rfl
theorem q1670 : (Jvm.Cond.lays "FigureSurvey$Panel" "FigureSurvey$Panel" "visitors" "I") ∈ lw_all := lw_g (lw_at lw_m7 157 rfl) rfl
theorem q1671 : (Jvm.Cond.soleField "FigureSurvey$Panel" "visitors") ∈ lw_all := lw_g (lw_at lw_m7 158 rfl) rfl
theorem q1672 : (Jvm.Cond.superclass "FigureSurvey$Panel" "java/lang/Object") ∈ lw_all := lw_g (lw_at lw_m7 159 rfl) rfl
theorem q1740 : (Jvm.Cond.instanceMethod ({ cls := "FigureSurvey$Panel", name := "seen", desc := "(I)I" } : Jvm.MethodName)) ∈ lw_all := lw_g (lw_at lw_m7 227 rfl) rfl
theorem q1741 : (Jvm.Cond.selects "FigureSurvey$Panel" ({ cls := "FigureSurvey$Panel", name := "seen", desc := "(I)I" } : Jvm.MethodName) ({ cls := "FigureSurvey$Panel", name := "seen", desc := "(I)I" } : Jvm.MethodName)) ∈ lw_all := lw_g (lw_at lw_m7 228 rfl) rfl
theorem q1742 : (Jvm.Cond.code ({ cls := "FigureSurvey$Panel", name := "seen", desc := "(I)I" } : Jvm.MethodName) prog_9_method_4_code (2 : Nat) (Option.some Jvm.ClassFile.FieldType.int)) ∈ lw_all := lw_g (lw_at lw_m7 229 rfl) rfl
theorem q1743 : (Jvm.Cond.privateMethod ({ cls := "FigureSurvey$Panel", name := "lambda$seen$0", desc := "(II)Z" } : Jvm.MethodName)) ∈ lw_tbl := lw_at lw_m7 230 rfl
theorem q1744 : (Jvm.Cond.instanceMethod ({ cls := "FigureSurvey$Panel", name := "lambda$seen$0", desc := "(II)Z" } : Jvm.MethodName)) ∈ lw_all := lw_g (lw_at lw_m7 231 rfl) rfl
theorem q1745 : (Jvm.Cond.code ({ cls := "FigureSurvey$Panel", name := "lambda$seen$0", desc := "(II)Z" } : Jvm.MethodName) prog_9_method_6_code (3 : Nat) (Option.some Jvm.ClassFile.FieldType.boolean)) ∈ lw_all := lw_g (lw_at lw_m7 232 rfl) rfl
theorem q1746 : (Jvm.Cond.methodLinkNest "FigureSurvey$Panel" (64 : Nat) ({ cls := "FigureSurvey", name := "has", desc := "(II)Z" } : Jvm.MethodName) "FigureSurvey") ∈ lw_tbl := lw_at lw_m7 233 rfl
theorem q1747 : (Jvm.Cond.methodLink "FigureSurvey$Panel" (68 : Nat) ({ cls := "FigureSurvey$Panel", name := "isEdge", desc := "(II)Z" } : Jvm.MethodName)) ∈ lw_all := lw_g (lw_at lw_m7 234 rfl) rfl
theorem q1748 : (Jvm.Cond.instanceMethod ({ cls := "FigureSurvey$Panel", name := "isEdge", desc := "(II)Z" } : Jvm.MethodName)) ∈ lw_all := lw_g (lw_at lw_m7 235 rfl) rfl
theorem q1749 : (Jvm.Cond.selects "FigureSurvey$Panel" ({ cls := "FigureSurvey$Panel", name := "isEdge", desc := "(II)Z" } : Jvm.MethodName) ({ cls := "FigureSurvey$Panel", name := "isEdge", desc := "(II)Z" } : Jvm.MethodName)) ∈ lw_all := lw_g (lw_at lw_m7 236 rfl) rfl
theorem q1750 : (Jvm.Cond.code ({ cls := "FigureSurvey$Panel", name := "isEdge", desc := "(II)Z" } : Jvm.MethodName) prog_9_method_3_code (5 : Nat) (Option.some Jvm.ClassFile.FieldType.boolean)) ∈ lw_all := lw_g (lw_at lw_m7 237 rfl) rfl
theorem q1751 : (Jvm.Cond.methodLink "FigureSurvey$Panel" (46 : Nat) ({ cls := "java/lang/Math", name := "abs", desc := "(I)I" } : Jvm.MethodName)) ∈ lw_all := lw_g (lw_at lw_m7 238 rfl) rfl
theorem q1752 : (Jvm.Cond.methodLinkNest "FigureSurvey$Panel" (54 : Nat) ({ cls := "FigureSurvey", name := "count", desc := "(ILFigureSurvey$Pick;)I" } : Jvm.MethodName) "FigureSurvey") ∈ lw_tbl := lw_at lw_m7 239 rfl
theorem q1761 : (Jvm.Cond.instanceMethod ({ cls := "FigureSurvey$Panel", name := "edges", desc := "(I)J" } : Jvm.MethodName)) ∈ lw_all := lw_g (lw_at lw_m8 8 rfl) rfl
theorem q1762 : (Jvm.Cond.selects "FigureSurvey$Panel" ({ cls := "FigureSurvey$Panel", name := "edges", desc := "(I)J" } : Jvm.MethodName) ({ cls := "FigureSurvey$Panel", name := "edges", desc := "(I)J" } : Jvm.MethodName)) ∈ lw_all := lw_g (lw_at lw_m8 9 rfl) rfl
theorem q1763 : (Jvm.Cond.code ({ cls := "FigureSurvey$Panel", name := "edges", desc := "(I)J" } : Jvm.MethodName) prog_9_method_5_code (5 : Nat) (Option.some Jvm.ClassFile.FieldType.long)) ∈ lw_all := lw_g (lw_at lw_m8 10 rfl) rfl
theorem q1764 : (Jvm.Cond.methodLink "FigureSurvey$Panel" (58 : Nat) ({ cls := "FigureSurvey$Panel", name := "seen", desc := "(I)I" } : Jvm.MethodName)) ∈ lw_all := lw_g (lw_at lw_m8 11 rfl) rfl
theorem q2314 : (Jvm.Cond.instanceMethod ({ cls := "FigureSurvey$Panel", name := "decay", desc := "()I" } : Jvm.MethodName)) ∈ lw_all := lw_g (lw_at lw_m10 81 rfl) rfl
theorem q2315 : (Jvm.Cond.selects "FigureSurvey$Panel" ({ cls := "FigureSurvey$Panel", name := "decay", desc := "()I" } : Jvm.MethodName) ({ cls := "FigureSurvey$Panel", name := "decay", desc := "()I" } : Jvm.MethodName)) ∈ lw_all := lw_g (lw_at lw_m10 82 rfl) rfl
theorem q2316 : (Jvm.Cond.code ({ cls := "FigureSurvey$Panel", name := "decay", desc := "()I" } : Jvm.MethodName) prog_9_method_2_code (1 : Nat) (Option.some Jvm.ClassFile.FieldType.int)) ∈ lw_all := lw_g (lw_at lw_m10 83 rfl) rfl
theorem q2317 : (Jvm.Cond.methodLink "FigureSurvey$Panel" (40 : Nat) ({ cls := "java/lang/Math", name := "max", desc := "(II)I" } : Jvm.MethodName)) ∈ lw_all := lw_g (lw_at lw_m10 84 rfl) rfl
theorem q2932 : (Jvm.Cond.castable "FigureSurvey$Panel" "java/lang/Object") ∈ lw_tbl := lw_at lw_m12 219 rfl
theorem in_X3 : ∀ w ∈ wsX30, w ∈ lw_all := lw_in wsX30 [1646, 1648, 1650, 1652, 1654, 1656, 1658, 1660, 1662, 1664, 1666, 1668, 1670] (by decide +kernel) (by decide +kernel)
/-! FigureSurvey$Stroke -/
set_option maxRecDepth 100000
def RX4 : String := "FigureSurvey$Stroke"
def TX4 : u_T := fun k => match k with
  | 0 => ("FigureSurvey$Stroke", "panel", "LFigureSurvey$Panel;", true)
  | 1 => ("FigureSurvey$Stroke", "cells", "J", true)
  | _ => ("FigureSurvey$Stroke", "isCast", "Z", false)
def tyX4 : Nat → FieldType := fun k => match k with
  | 0 => .object "FigureSurvey$Panel"
  | 1 => .long
  | _ => .boolean
abbrev wsX40 : List Cond := u_ws RX4 TX4 3
theorem nmX4 : ∀ a, a < 3 → ∀ b, b < 3 → a ≠ b → (TX4 a).2.1 ≠ (TX4 b).2.1 := by decide +kernel
theorem tyX4_ok : ∀ k, k < 3 → parseFieldDescriptor (TX4 k).2.2.1 = some (tyX4 k) := by decide +kernel
abbrev cX4_known : ByteArray := prog_14_method_2_code
def yX4_known : MethodName := ⟨RX4, "known", "()J"⟩
def dkwX4_known_1 : List UInt8 := [180, 0, 21, 20, 0, 26, 131, 127, 173]
abbrev dktX4_known_1 : List UInt8 := dkwX4_known_1 ++ []
def dkwX4_known_0 : List UInt8 := [42, 180, 0, 17, 153, 0, 10, 42, 180, 0, 13, 167, 0, 19, 42, 180, 0, 13, 42, 180, 0, 7]
abbrev dktX4_known_0 : List UInt8 := dkwX4_known_0 ++ dktX4_known_1
theorem dksX4_known_0 : cX4_known.data.toList.drop 0 = dktX4_known_0 := by decide +kernel
theorem dksX4_known_1 : cX4_known.data.toList.drop 22 = dktX4_known_1 := dk_seg dksX4_known_0 22 rfl rfl
theorem dX4_known_0 : decode cX4_known 0 = .ok (.aload_n 0, 1) := dk_42 (dk_at dksX4_known_0 0 rfl rfl)
theorem dX4_known_1 : decode cX4_known 1 = .ok (.getfield 17, 3) := dk_180 0 17 (dk_at dksX4_known_0 1 rfl rfl)
theorem dX4_known_4 : decode cX4_known 4 = .ok (.ifCond .eq 10, 3) := dk_153 0 10 (dk_at dksX4_known_0 4 rfl rfl)
theorem dX4_known_7 : decode cX4_known 7 = .ok (.aload_n 0, 1) := dk_42 (dk_at dksX4_known_0 7 rfl rfl)
theorem dX4_known_8 : decode cX4_known 8 = .ok (.getfield 13, 3) := dk_180 0 13 (dk_at dksX4_known_0 8 rfl rfl)
theorem dX4_known_11 : decode cX4_known 11 = .ok (.goto 19, 3) := dk_167 0 19 (dk_at dksX4_known_0 11 rfl rfl)
theorem dX4_known_14 : decode cX4_known 14 = .ok (.aload_n 0, 1) := dk_42 (dk_at dksX4_known_0 14 rfl rfl)
theorem dX4_known_15 : decode cX4_known 15 = .ok (.getfield 13, 3) := dk_180 0 13 (dk_at dksX4_known_0 15 rfl rfl)
theorem dX4_known_18 : decode cX4_known 18 = .ok (.aload_n 0, 1) := dk_42 (dk_at dksX4_known_0 18 rfl rfl)
theorem dX4_known_19 : decode cX4_known 19 = .ok (.getfield 7, 3) := dk_180 0 7 (dk_at dksX4_known_0 19 rfl rfl)
theorem dX4_known_22 : decode cX4_known 22 = .ok (.getfield 21, 3) := dk_180 0 21 (dk_at dksX4_known_1 0 rfl rfl)
theorem dX4_known_25 : decode cX4_known 25 = .ok (.ldc2_w 26, 3) := dk_20 0 26 (dk_at dksX4_known_1 3 rfl rfl)
theorem dX4_known_28 : decode cX4_known 28 = .ok (.lxor, 1) := dk_131 (dk_at dksX4_known_1 6 rfl rfl)
theorem dX4_known_29 : decode cX4_known 29 = .ok (.land, 1) := dk_127 (dk_at dksX4_known_1 7 rfl rfl)
theorem dX4_known_30 : decode cX4_known 30 = .ok (.lreturn, 1) := dk_173 (dk_at dksX4_known_1 8 rfl rfl)
abbrev cX4_init : ByteArray := prog_14_method_1_code
def yX4_init : MethodName := ⟨RX4, "<init>", "(LFigureSurvey$Panel;J)V"⟩
def dkwX4_init_0 : List UInt8 := [42, 183, 0, 1, 42, 43, 181, 0, 7, 42, 32, 181, 0, 13, 177]
abbrev dktX4_init_0 : List UInt8 := dkwX4_init_0 ++ []
theorem dksX4_init_0 : cX4_init.data.toList.drop 0 = dktX4_init_0 := by decide +kernel
theorem dX4_init_0 : decode cX4_init 0 = .ok (.aload_n 0, 1) := dk_42 (dk_at dksX4_init_0 0 rfl rfl)
theorem dX4_init_1 : decode cX4_init 1 = .ok (.invokespecial 1, 3) := dk_183 0 1 (dk_at dksX4_init_0 1 rfl rfl)
theorem dX4_init_4 : decode cX4_init 4 = .ok (.aload_n 0, 1) := dk_42 (dk_at dksX4_init_0 4 rfl rfl)
theorem dX4_init_5 : decode cX4_init 5 = .ok (.aload_n 1, 1) := dk_43 (dk_at dksX4_init_0 5 rfl rfl)
theorem dX4_init_6 : decode cX4_init 6 = .ok (.putfield 7, 3) := dk_181 0 7 (dk_at dksX4_init_0 6 rfl rfl)
theorem dX4_init_9 : decode cX4_init 9 = .ok (.aload_n 0, 1) := dk_42 (dk_at dksX4_init_0 9 rfl rfl)
theorem dX4_init_10 : decode cX4_init 10 = .ok (.lload_n 2, 1) := dk_32 (dk_at dksX4_init_0 10 rfl rfl)
theorem dX4_init_11 : decode cX4_init 11 = .ok (.putfield 13, 3) := dk_181 0 13 (dk_at dksX4_init_0 11 rfl rfl)
theorem dX4_init_14 : decode cX4_init 14 = .ok (.return_, 1) := dk_177 (dk_at dksX4_init_0 14 rfl rfl)
theorem q98 : (Jvm.Cond.initialized "FigureSurvey$Stroke") ∈ lw_all := lw_g (lw_at lw_m1 25 rfl) rfl
theorem q446 : (Jvm.Cond.selects "FigureSurvey$Stroke" ({ cls := "java/lang/Object", name := "getClass", desc := "()Ljava/lang/Class;" } : Jvm.MethodName) ({ cls := "java/lang/Object", name := "getClass", desc := "()Ljava/lang/Class;" } : Jvm.MethodName)) ∈ lw_all := lw_g (lw_at lw_m2 133 rfl) rfl
theorem q543 : (Jvm.Cond.instanceMethod ({ cls := "FigureSurvey$Stroke", name := "known", desc := "()J" } : Jvm.MethodName)) ∈ lw_all := lw_g (lw_at lw_m2 230 rfl) rfl
theorem q544 : (Jvm.Cond.selects "FigureSurvey$Stroke" ({ cls := "FigureSurvey$Stroke", name := "known", desc := "()J" } : Jvm.MethodName) ({ cls := "FigureSurvey$Stroke", name := "known", desc := "()J" } : Jvm.MethodName)) ∈ lw_all := lw_g (lw_at lw_m2 231 rfl) rfl
theorem q545 : (Jvm.Cond.code ({ cls := "FigureSurvey$Stroke", name := "known", desc := "()J" } : Jvm.MethodName) prog_14_method_2_code (1 : Nat) (Option.some Jvm.ClassFile.FieldType.long)) ∈ lw_all := lw_g (lw_at lw_m2 232 rfl) rfl
theorem q546 : (Jvm.Cond.constantLong "FigureSurvey$Stroke" (26 : Nat) (-1 : Int64)) ∈ lw_all := lw_g (lw_at lw_m2 233 rfl) rfl
theorem q1216 : (Jvm.Cond.selects "FigureSurvey$Stroke" ({ cls := "java/lang/Object", name := "equals", desc := "(Ljava/lang/Object;)Z" } : Jvm.MethodName) ({ cls := "java/lang/Object", name := "equals", desc := "(Ljava/lang/Object;)Z" } : Jvm.MethodName)) ∈ lw_all := lw_g (lw_at lw_m5 183 rfl) rfl
theorem q1630 : (Jvm.Cond.fieldLink "FigureSurvey$Stroke" (21 : Nat) "FigureSurvey$Panel" "harmed" "J") ∈ lw_all := lw_g (lw_at lw_m7 117 rfl) rfl
theorem q1777 : (Jvm.Cond.instantiable "FigureSurvey$Stroke" (3 : Nat)) ∈ lw_all := lw_g (lw_at lw_m8 24 rfl) rfl
theorem q1779 : (Jvm.Cond.instanceMethod ({ cls := "FigureSurvey$Stroke", name := "<init>", desc := "(LFigureSurvey$Panel;J)V" } : Jvm.MethodName)) ∈ lw_all := lw_g (lw_at lw_m8 26 rfl) rfl
theorem q1780 : (Jvm.Cond.code ({ cls := "FigureSurvey$Stroke", name := "<init>", desc := "(LFigureSurvey$Panel;J)V" } : Jvm.MethodName) prog_14_method_1_code (4 : Nat) (Option.none : Option Jvm.ClassFile.FieldType)) ∈ lw_all := lw_g (lw_at lw_m8 27 rfl) rfl
theorem q1781 : (Jvm.Cond.methodLink "FigureSurvey$Stroke" (1 : Nat) ({ cls := "java/lang/Object", name := "<init>", desc := "()V" } : Jvm.MethodName)) ∈ lw_all := lw_g (lw_at lw_m8 28 rfl) rfl
theorem q1782 : (Jvm.Cond.fieldLink "FigureSurvey$Stroke" (7 : Nat) "FigureSurvey$Stroke" "panel" "LFigureSurvey$Panel;") ∈ lw_all := lw_g (lw_at lw_m8 29 rfl) rfl
theorem q1784 : (Jvm.Cond.fieldLink "FigureSurvey$Stroke" (13 : Nat) "FigureSurvey$Stroke" "cells" "J") ∈ lw_all := lw_g (lw_at lw_m8 31 rfl) rfl
theorem q1786 : (Jvm.Cond.fieldLink "FigureSurvey$Stroke" (17 : Nat) "FigureSurvey$Stroke" "isCast" "Z") ∈ lw_all := lw_g (lw_at lw_m8 33 rfl) rfl
theorem q1788 : (Jvm.Cond.laysFinal "FigureSurvey$Stroke" "FigureSurvey$Stroke" "panel" "LFigureSurvey$Panel;") ∈ lw_all := lw_g (lw_at lw_m8 35 rfl) rfl
theorem q1789 : (Jvm.Cond.soleField "FigureSurvey$Stroke" "panel") ∈ lw_all := lw_g (lw_at lw_m8 36 rfl) rfl
theorem q1790 : (Jvm.Cond.laysFinal "FigureSurvey$Stroke" "FigureSurvey$Stroke" "cells" "J") ∈ lw_all := lw_g (lw_at lw_m8 37 rfl) rfl
theorem q1791 : (Jvm.Cond.soleField "FigureSurvey$Stroke" "cells") ∈ lw_all := lw_g (lw_at lw_m8 38 rfl) rfl
theorem q1792 : (Jvm.Cond.lays "FigureSurvey$Stroke" "FigureSurvey$Stroke" "isCast" "Z") ∈ lw_all := lw_g (lw_at lw_m8 39 rfl) rfl
theorem q1793 : (Jvm.Cond.soleField "FigureSurvey$Stroke" "isCast") ∈ lw_all := lw_g (lw_at lw_m8 40 rfl) rfl
theorem q1794 : (Jvm.Cond.superclass "FigureSurvey$Stroke" "java/lang/Object") ∈ lw_all := lw_g (lw_at lw_m8 41 rfl) rfl
theorem q2935 : (Jvm.Cond.castable "FigureSurvey$Stroke" "java/lang/Object") ∈ lw_tbl := lw_at lw_m12 222 rfl
theorem in_X4 : ∀ w ∈ wsX40, w ∈ lw_all := lw_in wsX40 [1788, 1790, 1792] (by decide +kernel) (by decide +kernel)
/-! FigureSurvey$Figure -/
set_option maxRecDepth 100000
def RX5 : String := "FigureSurvey$Figure"
def TX5 : u_T := fun k => match k with
  | 0 => ("FigureSurvey$Figure", "number", "I", true)
  | 1 => ("FigureSurvey$Figure", "panel", "LFigureSurvey$Panel;", true)
  | 2 => ("FigureSurvey$Figure", "strokes", "Ljava/util/ArrayList;", true)
  | 3 => ("FigureSurvey$Figure", "tracings", "Ljava/util/ArrayList;", true)
  | 4 => ("FigureSurvey$Figure", "names", "Ljava/util/ArrayList;", true)
  | 5 => ("FigureSurvey$Figure", "points", "I", false)
  | _ => ("FigureSurvey$Figure", "features", "I", false)
def tyX5 : Nat → FieldType := fun k => match k with
  | 0 => .int
  | 1 => .object "FigureSurvey$Panel"
  | 2 => .object "java/util/ArrayList"
  | 3 => .object "java/util/ArrayList"
  | 4 => .object "java/util/ArrayList"
  | 5 => .int
  | _ => .int
abbrev wsX50 : List Cond := u_ws RX5 TX5 7
theorem nmX5 : ∀ a, a < 7 → ∀ b, b < 7 → a ≠ b → (TX5 a).2.1 ≠ (TX5 b).2.1 := by decide +kernel
theorem tyX5_ok : ∀ k, k < 7 → parseFieldDescriptor (TX5 k).2.2.1 = some (tyX5 k) := by decide +kernel
abbrev cX5_isGenuine : ByteArray := prog_6_method_4_code
def yX5_isGenuine : MethodName := ⟨RX5, "isGenuine", "()Z"⟩
def dkwX5_isGenuine_0 : List UInt8 := [42, 182, 0, 57, 16, 10, 162, 0, 7, 4, 167, 0, 4, 3, 172]
abbrev dktX5_isGenuine_0 : List UInt8 := dkwX5_isGenuine_0 ++ []
theorem dksX5_isGenuine_0 : cX5_isGenuine.data.toList.drop 0 = dktX5_isGenuine_0 := by decide +kernel
theorem dX5_isGenuine_0 : decode cX5_isGenuine 0 = .ok (.aload_n 0, 1) := dk_42 (dk_at dksX5_isGenuine_0 0 rfl rfl)
theorem dX5_isGenuine_1 : decode cX5_isGenuine 1 = .ok (.invokevirtual 57, 3) := dk_182 0 57 (dk_at dksX5_isGenuine_0 1 rfl rfl)
theorem dX5_isGenuine_4 : decode cX5_isGenuine 4 = .ok (.bipush 10, 2) := dk_16 10 (dk_at dksX5_isGenuine_0 4 rfl rfl)
theorem dX5_isGenuine_6 : decode cX5_isGenuine 6 = .ok (.if_icmp .ge 7, 3) := dk_162 0 7 (dk_at dksX5_isGenuine_0 6 rfl rfl)
theorem dX5_isGenuine_9 : decode cX5_isGenuine 9 = .ok (.iconst 1, 1) := dk_4 (dk_at dksX5_isGenuine_0 9 rfl rfl)
theorem dX5_isGenuine_10 : decode cX5_isGenuine 10 = .ok (.goto 4, 3) := dk_167 0 4 (dk_at dksX5_isGenuine_0 10 rfl rfl)
theorem dX5_isGenuine_13 : decode cX5_isGenuine 13 = .ok (.iconst 0, 1) := dk_3 (dk_at dksX5_isGenuine_0 13 rfl rfl)
theorem dX5_isGenuine_14 : decode cX5_isGenuine 14 = .ok (.ireturn, 1) := dk_172 (dk_at dksX5_isGenuine_0 14 rfl rfl)
abbrev cX5_doubt : ByteArray := prog_6_method_3_code
def yX5_doubt : MethodName := ⟨RX5, "doubt", "()I"⟩
def dkwX5_doubt_1 : List UInt8 := [160, 0, 7, 4, 167, 0, 4, 3, 61, 42, 180, 0, 54, 28, 153, 0, 7, 8, 167, 0, 4, 3, 96, 172]
abbrev dktX5_doubt_1 : List UInt8 := dkwX5_doubt_1 ++ []
def dkwX5_doubt_0 : List UInt8 := [42, 180, 0, 18, 182, 0, 32, 60, 27, 5, 161, 0, 21, 27, 42, 186, 0, 46, 0, 0, 184, 0, 50, 27]
abbrev dktX5_doubt_0 : List UInt8 := dkwX5_doubt_0 ++ dktX5_doubt_1
theorem dksX5_doubt_0 : cX5_doubt.data.toList.drop 0 = dktX5_doubt_0 := by decide +kernel
theorem dksX5_doubt_1 : cX5_doubt.data.toList.drop 24 = dktX5_doubt_1 := dk_seg dksX5_doubt_0 24 rfl rfl
theorem dX5_doubt_0 : decode cX5_doubt 0 = .ok (.aload_n 0, 1) := dk_42 (dk_at dksX5_doubt_0 0 rfl rfl)
theorem dX5_doubt_1 : decode cX5_doubt 1 = .ok (.getfield 18, 3) := dk_180 0 18 (dk_at dksX5_doubt_0 1 rfl rfl)
theorem dX5_doubt_4 : decode cX5_doubt 4 = .ok (.invokevirtual 32, 3) := dk_182 0 32 (dk_at dksX5_doubt_0 4 rfl rfl)
theorem dX5_doubt_7 : decode cX5_doubt 7 = .ok (.istore_n 1, 1) := dk_60 (dk_at dksX5_doubt_0 7 rfl rfl)
theorem dX5_doubt_8 : decode cX5_doubt 8 = .ok (.iload_n 1, 1) := dk_27 (dk_at dksX5_doubt_0 8 rfl rfl)
theorem dX5_doubt_9 : decode cX5_doubt 9 = .ok (.iconst 2, 1) := dk_5 (dk_at dksX5_doubt_0 9 rfl rfl)
theorem dX5_doubt_10 : decode cX5_doubt 10 = .ok (.if_icmp .lt 21, 3) := dk_161 0 21 (dk_at dksX5_doubt_0 10 rfl rfl)
theorem dX5_doubt_13 : decode cX5_doubt 13 = .ok (.iload_n 1, 1) := dk_27 (dk_at dksX5_doubt_0 13 rfl rfl)
theorem dX5_doubt_14 : decode cX5_doubt 14 = .ok (.aload_n 0, 1) := dk_42 (dk_at dksX5_doubt_0 14 rfl rfl)
theorem dX5_doubt_15 : decode cX5_doubt 15 = .ok (.invokedynamic 46, 5) := by decide +kernel
theorem dX5_doubt_20 : decode cX5_doubt 20 = .ok (.invokestatic 50, 3) := dk_184 0 50 (dk_at dksX5_doubt_0 20 rfl rfl)
theorem dX5_doubt_23 : decode cX5_doubt 23 = .ok (.iload_n 1, 1) := dk_27 (dk_at dksX5_doubt_0 23 rfl rfl)
theorem dX5_doubt_24 : decode cX5_doubt 24 = .ok (.if_icmp .ne 7, 3) := dk_160 0 7 (dk_at dksX5_doubt_1 0 rfl rfl)
theorem dX5_doubt_27 : decode cX5_doubt 27 = .ok (.iconst 1, 1) := dk_4 (dk_at dksX5_doubt_1 3 rfl rfl)
theorem dX5_doubt_28 : decode cX5_doubt 28 = .ok (.goto 4, 3) := dk_167 0 4 (dk_at dksX5_doubt_1 4 rfl rfl)
theorem dX5_doubt_31 : decode cX5_doubt 31 = .ok (.iconst 0, 1) := dk_3 (dk_at dksX5_doubt_1 7 rfl rfl)
theorem dX5_doubt_32 : decode cX5_doubt 32 = .ok (.istore_n 2, 1) := dk_61 (dk_at dksX5_doubt_1 8 rfl rfl)
theorem dX5_doubt_33 : decode cX5_doubt 33 = .ok (.aload_n 0, 1) := dk_42 (dk_at dksX5_doubt_1 9 rfl rfl)
theorem dX5_doubt_34 : decode cX5_doubt 34 = .ok (.getfield 54, 3) := dk_180 0 54 (dk_at dksX5_doubt_1 10 rfl rfl)
theorem dX5_doubt_37 : decode cX5_doubt 37 = .ok (.iload_n 2, 1) := dk_28 (dk_at dksX5_doubt_1 13 rfl rfl)
theorem dX5_doubt_38 : decode cX5_doubt 38 = .ok (.ifCond .eq 7, 3) := dk_153 0 7 (dk_at dksX5_doubt_1 14 rfl rfl)
theorem dX5_doubt_41 : decode cX5_doubt 41 = .ok (.iconst 5, 1) := dk_8 (dk_at dksX5_doubt_1 17 rfl rfl)
theorem dX5_doubt_42 : decode cX5_doubt 42 = .ok (.goto 4, 3) := dk_167 0 4 (dk_at dksX5_doubt_1 18 rfl rfl)
theorem dX5_doubt_45 : decode cX5_doubt 45 = .ok (.iconst 0, 1) := dk_3 (dk_at dksX5_doubt_1 21 rfl rfl)
theorem dX5_doubt_46 : decode cX5_doubt 46 = .ok (.iadd, 1) := dk_96 (dk_at dksX5_doubt_1 22 rfl rfl)
theorem dX5_doubt_47 : decode cX5_doubt 47 = .ok (.ireturn, 1) := dk_172 (dk_at dksX5_doubt_1 23 rfl rfl)
abbrev cX5_lambda_doubt_0 : ByteArray := prog_6_method_5_code
def yX5_lambda_doubt_0 : MethodName := ⟨RX5, "lambda$doubt$0", "(I)Z"⟩
def dkwX5_lambda_doubt_0_1 : List UInt8 := [172]
abbrev dktX5_lambda_doubt_0_1 : List UInt8 := dkwX5_lambda_doubt_0_1 ++ []
def dkwX5_lambda_doubt_0_0 : List UInt8 := [42, 180, 0, 18, 27, 182, 0, 36, 192, 0, 60, 182, 0, 62, 16, 95, 161, 0, 7, 4, 167, 0, 4, 3]
abbrev dktX5_lambda_doubt_0_0 : List UInt8 := dkwX5_lambda_doubt_0_0 ++ dktX5_lambda_doubt_0_1
theorem dksX5_lambda_doubt_0_0 : cX5_lambda_doubt_0.data.toList.drop 0 = dktX5_lambda_doubt_0_0 := by decide +kernel
theorem dksX5_lambda_doubt_0_1 : cX5_lambda_doubt_0.data.toList.drop 24 = dktX5_lambda_doubt_0_1 := dk_seg dksX5_lambda_doubt_0_0 24 rfl rfl
theorem dX5_lambda_doubt_0_0 : decode cX5_lambda_doubt_0 0 = .ok (.aload_n 0, 1) := dk_42 (dk_at dksX5_lambda_doubt_0_0 0 rfl rfl)
theorem dX5_lambda_doubt_0_1 : decode cX5_lambda_doubt_0 1 = .ok (.getfield 18, 3) := dk_180 0 18 (dk_at dksX5_lambda_doubt_0_0 1 rfl rfl)
theorem dX5_lambda_doubt_0_4 : decode cX5_lambda_doubt_0 4 = .ok (.iload_n 1, 1) := dk_27 (dk_at dksX5_lambda_doubt_0_0 4 rfl rfl)
theorem dX5_lambda_doubt_0_5 : decode cX5_lambda_doubt_0 5 = .ok (.invokevirtual 36, 3) := dk_182 0 36 (dk_at dksX5_lambda_doubt_0_0 5 rfl rfl)
theorem dX5_lambda_doubt_0_8 : decode cX5_lambda_doubt_0 8 = .ok (.checkcast 60, 3) := dk_192 0 60 (dk_at dksX5_lambda_doubt_0_0 8 rfl rfl)
theorem dX5_lambda_doubt_0_11 : decode cX5_lambda_doubt_0 11 = .ok (.invokevirtual 62, 3) := dk_182 0 62 (dk_at dksX5_lambda_doubt_0_0 11 rfl rfl)
theorem dX5_lambda_doubt_0_14 : decode cX5_lambda_doubt_0 14 = .ok (.bipush 95, 2) := dk_16 95 (dk_at dksX5_lambda_doubt_0_0 14 rfl rfl)
theorem dX5_lambda_doubt_0_16 : decode cX5_lambda_doubt_0 16 = .ok (.if_icmp .lt 7, 3) := dk_161 0 7 (dk_at dksX5_lambda_doubt_0_0 16 rfl rfl)
theorem dX5_lambda_doubt_0_19 : decode cX5_lambda_doubt_0 19 = .ok (.iconst 1, 1) := dk_4 (dk_at dksX5_lambda_doubt_0_0 19 rfl rfl)
theorem dX5_lambda_doubt_0_20 : decode cX5_lambda_doubt_0 20 = .ok (.goto 4, 3) := dk_167 0 4 (dk_at dksX5_lambda_doubt_0_0 20 rfl rfl)
theorem dX5_lambda_doubt_0_23 : decode cX5_lambda_doubt_0 23 = .ok (.iconst 0, 1) := dk_3 (dk_at dksX5_lambda_doubt_0_0 23 rfl rfl)
theorem dX5_lambda_doubt_0_24 : decode cX5_lambda_doubt_0 24 = .ok (.ireturn, 1) := dk_172 (dk_at dksX5_lambda_doubt_0_1 0 rfl rfl)
abbrev cX5_cells : ByteArray := prog_6_method_2_code
def yX5_cells : MethodName := ⟨RX5, "cells", "()J"⟩
def dkwX5_cells_1 : List UInt8 := [192, 0, 40, 182, 0, 42, 129, 64, 132, 3, 1, 167, 255, 225, 31, 173]
abbrev dktX5_cells_1 : List UInt8 := dkwX5_cells_1 ++ []
def dkwX5_cells_0 : List UInt8 := [9, 64, 3, 62, 29, 42, 180, 0, 12, 182, 0, 32, 162, 0, 26, 31, 42, 180, 0, 12, 29, 182, 0, 36]
abbrev dktX5_cells_0 : List UInt8 := dkwX5_cells_0 ++ dktX5_cells_1
theorem dksX5_cells_0 : cX5_cells.data.toList.drop 0 = dktX5_cells_0 := by decide +kernel
theorem dksX5_cells_1 : cX5_cells.data.toList.drop 24 = dktX5_cells_1 := dk_seg dksX5_cells_0 24 rfl rfl
theorem dX5_cells_0 : decode cX5_cells 0 = .ok (.lconst 0, 1) := dk_9 (dk_at dksX5_cells_0 0 rfl rfl)
theorem dX5_cells_1 : decode cX5_cells 1 = .ok (.lstore_n 1, 1) := dk_64 (dk_at dksX5_cells_0 1 rfl rfl)
theorem dX5_cells_2 : decode cX5_cells 2 = .ok (.iconst 0, 1) := dk_3 (dk_at dksX5_cells_0 2 rfl rfl)
theorem dX5_cells_3 : decode cX5_cells 3 = .ok (.istore_n 3, 1) := dk_62 (dk_at dksX5_cells_0 3 rfl rfl)
theorem dX5_cells_4 : decode cX5_cells 4 = .ok (.iload_n 3, 1) := dk_29 (dk_at dksX5_cells_0 4 rfl rfl)
theorem dX5_cells_5 : decode cX5_cells 5 = .ok (.aload_n 0, 1) := dk_42 (dk_at dksX5_cells_0 5 rfl rfl)
theorem dX5_cells_6 : decode cX5_cells 6 = .ok (.getfield 12, 3) := dk_180 0 12 (dk_at dksX5_cells_0 6 rfl rfl)
theorem dX5_cells_9 : decode cX5_cells 9 = .ok (.invokevirtual 32, 3) := dk_182 0 32 (dk_at dksX5_cells_0 9 rfl rfl)
theorem dX5_cells_12 : decode cX5_cells 12 = .ok (.if_icmp .ge 26, 3) := dk_162 0 26 (dk_at dksX5_cells_0 12 rfl rfl)
theorem dX5_cells_15 : decode cX5_cells 15 = .ok (.lload_n 1, 1) := dk_31 (dk_at dksX5_cells_0 15 rfl rfl)
theorem dX5_cells_16 : decode cX5_cells 16 = .ok (.aload_n 0, 1) := dk_42 (dk_at dksX5_cells_0 16 rfl rfl)
theorem dX5_cells_17 : decode cX5_cells 17 = .ok (.getfield 12, 3) := dk_180 0 12 (dk_at dksX5_cells_0 17 rfl rfl)
theorem dX5_cells_20 : decode cX5_cells 20 = .ok (.iload_n 3, 1) := dk_29 (dk_at dksX5_cells_0 20 rfl rfl)
theorem dX5_cells_21 : decode cX5_cells 21 = .ok (.invokevirtual 36, 3) := dk_182 0 36 (dk_at dksX5_cells_0 21 rfl rfl)
theorem dX5_cells_24 : decode cX5_cells 24 = .ok (.checkcast 40, 3) := dk_192 0 40 (dk_at dksX5_cells_1 0 rfl rfl)
theorem dX5_cells_27 : decode cX5_cells 27 = .ok (.invokevirtual 42, 3) := dk_182 0 42 (dk_at dksX5_cells_1 3 rfl rfl)
theorem dX5_cells_30 : decode cX5_cells 30 = .ok (.lor, 1) := dk_129 (dk_at dksX5_cells_1 6 rfl rfl)
theorem dX5_cells_31 : decode cX5_cells 31 = .ok (.lstore_n 1, 1) := dk_64 (dk_at dksX5_cells_1 7 rfl rfl)
theorem dX5_cells_32 : decode cX5_cells 32 = .ok (.iinc 3 1, 3) := dk_132 3 1 (dk_at dksX5_cells_1 8 rfl rfl)
theorem dX5_cells_35 : decode cX5_cells 35 = .ok (.goto (-31), 3) := dk_167 255 225 (dk_at dksX5_cells_1 11 rfl rfl)
theorem dX5_cells_38 : decode cX5_cells 38 = .ok (.lload_n 1, 1) := dk_31 (dk_at dksX5_cells_1 14 rfl rfl)
theorem dX5_cells_39 : decode cX5_cells 39 = .ok (.lreturn, 1) := dk_173 (dk_at dksX5_cells_1 15 rfl rfl)
abbrev cX5_init : ByteArray := prog_6_method_1_code
def yX5_init : MethodName := ⟨RX5, "<init>", "(ILFigureSurvey$Panel;)V"⟩
def dkwX5_init_2 : List UInt8 := [177]
abbrev dktX5_init_2 : List UInt8 := dkwX5_init_2 ++ []
def dkwX5_init_1 : List UInt8 := [181, 0, 18, 42, 187, 0, 9, 89, 183, 0, 11, 181, 0, 21, 42, 27, 181, 0, 24, 42, 44, 181, 0, 28]
abbrev dktX5_init_1 : List UInt8 := dkwX5_init_1 ++ dktX5_init_2
def dkwX5_init_0 : List UInt8 := [42, 183, 0, 3, 42, 187, 0, 9, 89, 183, 0, 11, 181, 0, 12, 42, 187, 0, 9, 89, 183, 0, 11]
abbrev dktX5_init_0 : List UInt8 := dkwX5_init_0 ++ dktX5_init_1
theorem dksX5_init_0 : cX5_init.data.toList.drop 0 = dktX5_init_0 := by decide +kernel
theorem dksX5_init_1 : cX5_init.data.toList.drop 23 = dktX5_init_1 := dk_seg dksX5_init_0 23 rfl rfl
theorem dksX5_init_2 : cX5_init.data.toList.drop 47 = dktX5_init_2 := dk_seg dksX5_init_1 24 rfl rfl
theorem dX5_init_0 : decode cX5_init 0 = .ok (.aload_n 0, 1) := dk_42 (dk_at dksX5_init_0 0 rfl rfl)
theorem dX5_init_1 : decode cX5_init 1 = .ok (.invokespecial 3, 3) := dk_183 0 3 (dk_at dksX5_init_0 1 rfl rfl)
theorem dX5_init_4 : decode cX5_init 4 = .ok (.aload_n 0, 1) := dk_42 (dk_at dksX5_init_0 4 rfl rfl)
theorem dX5_init_5 : decode cX5_init 5 = .ok (.new 9, 3) := dk_187 0 9 (dk_at dksX5_init_0 5 rfl rfl)
theorem dX5_init_8 : decode cX5_init 8 = .ok (.dup, 1) := dk_89 (dk_at dksX5_init_0 8 rfl rfl)
theorem dX5_init_9 : decode cX5_init 9 = .ok (.invokespecial 11, 3) := dk_183 0 11 (dk_at dksX5_init_0 9 rfl rfl)
theorem dX5_init_12 : decode cX5_init 12 = .ok (.putfield 12, 3) := dk_181 0 12 (dk_at dksX5_init_0 12 rfl rfl)
theorem dX5_init_15 : decode cX5_init 15 = .ok (.aload_n 0, 1) := dk_42 (dk_at dksX5_init_0 15 rfl rfl)
theorem dX5_init_16 : decode cX5_init 16 = .ok (.new 9, 3) := dk_187 0 9 (dk_at dksX5_init_0 16 rfl rfl)
theorem dX5_init_19 : decode cX5_init 19 = .ok (.dup, 1) := dk_89 (dk_at dksX5_init_0 19 rfl rfl)
theorem dX5_init_20 : decode cX5_init 20 = .ok (.invokespecial 11, 3) := dk_183 0 11 (dk_at dksX5_init_0 20 rfl rfl)
theorem dX5_init_23 : decode cX5_init 23 = .ok (.putfield 18, 3) := dk_181 0 18 (dk_at dksX5_init_1 0 rfl rfl)
theorem dX5_init_26 : decode cX5_init 26 = .ok (.aload_n 0, 1) := dk_42 (dk_at dksX5_init_1 3 rfl rfl)
theorem dX5_init_27 : decode cX5_init 27 = .ok (.new 9, 3) := dk_187 0 9 (dk_at dksX5_init_1 4 rfl rfl)
theorem dX5_init_30 : decode cX5_init 30 = .ok (.dup, 1) := dk_89 (dk_at dksX5_init_1 7 rfl rfl)
theorem dX5_init_31 : decode cX5_init 31 = .ok (.invokespecial 11, 3) := dk_183 0 11 (dk_at dksX5_init_1 8 rfl rfl)
theorem dX5_init_34 : decode cX5_init 34 = .ok (.putfield 21, 3) := dk_181 0 21 (dk_at dksX5_init_1 11 rfl rfl)
theorem dX5_init_37 : decode cX5_init 37 = .ok (.aload_n 0, 1) := dk_42 (dk_at dksX5_init_1 14 rfl rfl)
theorem dX5_init_38 : decode cX5_init 38 = .ok (.iload_n 1, 1) := dk_27 (dk_at dksX5_init_1 15 rfl rfl)
theorem dX5_init_39 : decode cX5_init 39 = .ok (.putfield 24, 3) := dk_181 0 24 (dk_at dksX5_init_1 16 rfl rfl)
theorem dX5_init_42 : decode cX5_init 42 = .ok (.aload_n 0, 1) := dk_42 (dk_at dksX5_init_1 19 rfl rfl)
theorem dX5_init_43 : decode cX5_init 43 = .ok (.aload_n 2, 1) := dk_44 (dk_at dksX5_init_1 20 rfl rfl)
theorem dX5_init_44 : decode cX5_init 44 = .ok (.putfield 28, 3) := dk_181 0 28 (dk_at dksX5_init_1 21 rfl rfl)
theorem dX5_init_47 : decode cX5_init 47 = .ok (.return_, 1) := dk_177 (dk_at dksX5_init_2 0 rfl rfl)
theorem q99 : (Jvm.Cond.initialized "FigureSurvey$Figure") ∈ lw_all := lw_g (lw_at lw_m1 26 rfl) rfl
theorem q440 : (Jvm.Cond.selects "FigureSurvey$Figure" ({ cls := "java/lang/Object", name := "getClass", desc := "()Ljava/lang/Class;" } : Jvm.MethodName) ({ cls := "java/lang/Object", name := "getClass", desc := "()Ljava/lang/Class;" } : Jvm.MethodName)) ∈ lw_all := lw_g (lw_at lw_m2 127 rfl) rfl
theorem q516 : (Jvm.Cond.instanceMethod ({ cls := "FigureSurvey$Figure", name := "isGenuine", desc := "()Z" } : Jvm.MethodName)) ∈ lw_all := lw_g (lw_at lw_m2 203 rfl) rfl
theorem q517 : (Jvm.Cond.selects "FigureSurvey$Figure" ({ cls := "FigureSurvey$Figure", name := "isGenuine", desc := "()Z" } : Jvm.MethodName) ({ cls := "FigureSurvey$Figure", name := "isGenuine", desc := "()Z" } : Jvm.MethodName)) ∈ lw_all := lw_g (lw_at lw_m2 204 rfl) rfl
theorem q518 : (Jvm.Cond.code ({ cls := "FigureSurvey$Figure", name := "isGenuine", desc := "()Z" } : Jvm.MethodName) prog_6_method_4_code (1 : Nat) (Option.some Jvm.ClassFile.FieldType.boolean)) ∈ lw_all := lw_g (lw_at lw_m2 205 rfl) rfl
theorem q519 : (Jvm.Cond.methodLink "FigureSurvey$Figure" (57 : Nat) ({ cls := "FigureSurvey$Figure", name := "doubt", desc := "()I" } : Jvm.MethodName)) ∈ lw_all := lw_g (lw_at lw_m2 206 rfl) rfl
theorem q520 : (Jvm.Cond.instanceMethod ({ cls := "FigureSurvey$Figure", name := "doubt", desc := "()I" } : Jvm.MethodName)) ∈ lw_all := lw_g (lw_at lw_m2 207 rfl) rfl
theorem q521 : (Jvm.Cond.selects "FigureSurvey$Figure" ({ cls := "FigureSurvey$Figure", name := "doubt", desc := "()I" } : Jvm.MethodName) ({ cls := "FigureSurvey$Figure", name := "doubt", desc := "()I" } : Jvm.MethodName)) ∈ lw_all := lw_g (lw_at lw_m2 208 rfl) rfl
theorem q522 : (Jvm.Cond.code ({ cls := "FigureSurvey$Figure", name := "doubt", desc := "()I" } : Jvm.MethodName) prog_6_method_3_code (3 : Nat) (Option.some Jvm.ClassFile.FieldType.int)) ∈ lw_all := lw_g (lw_at lw_m2 209 rfl) rfl
theorem q523 : (Jvm.Cond.methodLink "FigureSurvey$Figure" (32 : Nat) ({ cls := "java/util/ArrayList", name := "size", desc := "()I" } : Jvm.MethodName)) ∈ lw_all := lw_g (lw_at lw_m2 210 rfl) rfl
theorem q524 : (Jvm.Cond.privateMethod ({ cls := "FigureSurvey$Figure", name := "lambda$doubt$0", desc := "(I)Z" } : Jvm.MethodName)) ∈ lw_tbl := lw_at lw_m2 211 rfl
theorem q525 : (Jvm.Cond.instanceMethod ({ cls := "FigureSurvey$Figure", name := "lambda$doubt$0", desc := "(I)Z" } : Jvm.MethodName)) ∈ lw_all := lw_g (lw_at lw_m2 212 rfl) rfl
theorem q526 : (Jvm.Cond.code ({ cls := "FigureSurvey$Figure", name := "lambda$doubt$0", desc := "(I)Z" } : Jvm.MethodName) prog_6_method_5_code (2 : Nat) (Option.some Jvm.ClassFile.FieldType.boolean)) ∈ lw_all := lw_g (lw_at lw_m2 213 rfl) rfl
theorem q527 : (Jvm.Cond.methodLink "FigureSurvey$Figure" (36 : Nat) ({ cls := "java/util/ArrayList", name := "get", desc := "(I)Ljava/lang/Object;" } : Jvm.MethodName)) ∈ lw_all := lw_g (lw_at lw_m2 214 rfl) rfl
theorem q528 : (Jvm.Cond.classLink "FigureSurvey$Figure" (60 : Nat) "FigureSurvey$Tracing") ∈ lw_all := lw_g (lw_at lw_m2 215 rfl) rfl
theorem q529 : (Jvm.Cond.methodLink "FigureSurvey$Figure" (62 : Nat) ({ cls := "FigureSurvey$Tracing", name := "score", desc := "()I" } : Jvm.MethodName)) ∈ lw_all := lw_g (lw_at lw_m2 216 rfl) rfl
theorem q538 : (Jvm.Cond.instanceMethod ({ cls := "FigureSurvey$Figure", name := "cells", desc := "()J" } : Jvm.MethodName)) ∈ lw_all := lw_g (lw_at lw_m2 225 rfl) rfl
theorem q539 : (Jvm.Cond.selects "FigureSurvey$Figure" ({ cls := "FigureSurvey$Figure", name := "cells", desc := "()J" } : Jvm.MethodName) ({ cls := "FigureSurvey$Figure", name := "cells", desc := "()J" } : Jvm.MethodName)) ∈ lw_all := lw_g (lw_at lw_m2 226 rfl) rfl
theorem q540 : (Jvm.Cond.code ({ cls := "FigureSurvey$Figure", name := "cells", desc := "()J" } : Jvm.MethodName) prog_6_method_2_code (4 : Nat) (Option.some Jvm.ClassFile.FieldType.long)) ∈ lw_all := lw_g (lw_at lw_m2 227 rfl) rfl
theorem q541 : (Jvm.Cond.classLink "FigureSurvey$Figure" (40 : Nat) "FigureSurvey$Stroke") ∈ lw_all := lw_g (lw_at lw_m2 228 rfl) rfl
theorem q542 : (Jvm.Cond.methodLink "FigureSurvey$Figure" (42 : Nat) ({ cls := "FigureSurvey$Stroke", name := "known", desc := "()J" } : Jvm.MethodName)) ∈ lw_all := lw_g (lw_at lw_m2 229 rfl) rfl
theorem q594 : (Jvm.Cond.methodLinkNest "FigureSurvey$Figure" (50 : Nat) ({ cls := "FigureSurvey", name := "count", desc := "(ILFigureSurvey$Pick;)I" } : Jvm.MethodName) "FigureSurvey") ∈ lw_tbl := lw_at lw_m3 41 rfl
theorem q1208 : (Jvm.Cond.selects "FigureSurvey$Figure" ({ cls := "java/lang/Object", name := "equals", desc := "(Ljava/lang/Object;)Z" } : Jvm.MethodName) ({ cls := "java/lang/Object", name := "equals", desc := "(Ljava/lang/Object;)Z" } : Jvm.MethodName)) ∈ lw_all := lw_g (lw_at lw_m5 175 rfl) rfl
theorem q1805 : (Jvm.Cond.instantiable "FigureSurvey$Figure" (7 : Nat)) ∈ lw_all := lw_g (lw_at lw_m8 52 rfl) rfl
theorem q1807 : (Jvm.Cond.instanceMethod ({ cls := "FigureSurvey$Figure", name := "<init>", desc := "(ILFigureSurvey$Panel;)V" } : Jvm.MethodName)) ∈ lw_all := lw_g (lw_at lw_m8 54 rfl) rfl
theorem q1808 : (Jvm.Cond.code ({ cls := "FigureSurvey$Figure", name := "<init>", desc := "(ILFigureSurvey$Panel;)V" } : Jvm.MethodName) prog_6_method_1_code (3 : Nat) (Option.none : Option Jvm.ClassFile.FieldType)) ∈ lw_all := lw_g (lw_at lw_m8 55 rfl) rfl
theorem q1809 : (Jvm.Cond.methodLink "FigureSurvey$Figure" (3 : Nat) ({ cls := "java/lang/Object", name := "<init>", desc := "()V" } : Jvm.MethodName)) ∈ lw_all := lw_g (lw_at lw_m8 56 rfl) rfl
theorem q1810 : (Jvm.Cond.classLink "FigureSurvey$Figure" (9 : Nat) "java/util/ArrayList") ∈ lw_all := lw_g (lw_at lw_m8 57 rfl) rfl
theorem q1811 : (Jvm.Cond.methodLink "FigureSurvey$Figure" (11 : Nat) ({ cls := "java/util/ArrayList", name := "<init>", desc := "()V" } : Jvm.MethodName)) ∈ lw_all := lw_g (lw_at lw_m8 58 rfl) rfl
theorem q1812 : (Jvm.Cond.fieldLink "FigureSurvey$Figure" (24 : Nat) "FigureSurvey$Figure" "number" "I") ∈ lw_all := lw_g (lw_at lw_m8 59 rfl) rfl
theorem q1814 : (Jvm.Cond.fieldLink "FigureSurvey$Figure" (28 : Nat) "FigureSurvey$Figure" "panel" "LFigureSurvey$Panel;") ∈ lw_all := lw_g (lw_at lw_m8 61 rfl) rfl
theorem q1818 : (Jvm.Cond.fieldLink "FigureSurvey$Figure" (12 : Nat) "FigureSurvey$Figure" "strokes" "Ljava/util/ArrayList;") ∈ lw_all := lw_g (lw_at lw_m8 65 rfl) rfl
theorem q1820 : (Jvm.Cond.fieldLink "FigureSurvey$Figure" (18 : Nat) "FigureSurvey$Figure" "tracings" "Ljava/util/ArrayList;") ∈ lw_all := lw_g (lw_at lw_m8 67 rfl) rfl
theorem q1822 : (Jvm.Cond.fieldLink "FigureSurvey$Figure" (21 : Nat) "FigureSurvey$Figure" "names" "Ljava/util/ArrayList;") ∈ lw_all := lw_g (lw_at lw_m8 69 rfl) rfl
theorem q1824 : (Jvm.Cond.fieldLink "FigureSurvey$Figure" (54 : Nat) "FigureSurvey$Figure" "points" "I") ∈ lw_all := lw_g (lw_at lw_m8 71 rfl) rfl
theorem q1827 : (Jvm.Cond.laysFinal "FigureSurvey$Figure" "FigureSurvey$Figure" "number" "I") ∈ lw_all := lw_g (lw_at lw_m8 74 rfl) rfl
theorem q1828 : (Jvm.Cond.soleField "FigureSurvey$Figure" "number") ∈ lw_all := lw_g (lw_at lw_m8 75 rfl) rfl
theorem q1829 : (Jvm.Cond.laysFinal "FigureSurvey$Figure" "FigureSurvey$Figure" "panel" "LFigureSurvey$Panel;") ∈ lw_all := lw_g (lw_at lw_m8 76 rfl) rfl
theorem q1830 : (Jvm.Cond.soleField "FigureSurvey$Figure" "panel") ∈ lw_all := lw_g (lw_at lw_m8 77 rfl) rfl
theorem q1831 : (Jvm.Cond.laysFinal "FigureSurvey$Figure" "FigureSurvey$Figure" "strokes" "Ljava/util/ArrayList;") ∈ lw_all := lw_g (lw_at lw_m8 78 rfl) rfl
theorem q1832 : (Jvm.Cond.soleField "FigureSurvey$Figure" "strokes") ∈ lw_all := lw_g (lw_at lw_m8 79 rfl) rfl
theorem q1833 : (Jvm.Cond.laysFinal "FigureSurvey$Figure" "FigureSurvey$Figure" "tracings" "Ljava/util/ArrayList;") ∈ lw_all := lw_g (lw_at lw_m8 80 rfl) rfl
theorem q1834 : (Jvm.Cond.soleField "FigureSurvey$Figure" "tracings") ∈ lw_all := lw_g (lw_at lw_m8 81 rfl) rfl
theorem q1835 : (Jvm.Cond.laysFinal "FigureSurvey$Figure" "FigureSurvey$Figure" "names" "Ljava/util/ArrayList;") ∈ lw_all := lw_g (lw_at lw_m8 82 rfl) rfl
theorem q1836 : (Jvm.Cond.soleField "FigureSurvey$Figure" "names") ∈ lw_all := lw_g (lw_at lw_m8 83 rfl) rfl
theorem q1837 : (Jvm.Cond.lays "FigureSurvey$Figure" "FigureSurvey$Figure" "points" "I") ∈ lw_all := lw_g (lw_at lw_m8 84 rfl) rfl
theorem q1838 : (Jvm.Cond.soleField "FigureSurvey$Figure" "points") ∈ lw_all := lw_g (lw_at lw_m8 85 rfl) rfl
theorem q1839 : (Jvm.Cond.lays "FigureSurvey$Figure" "FigureSurvey$Figure" "features" "I") ∈ lw_all := lw_g (lw_at lw_m8 86 rfl) rfl
theorem q1840 : (Jvm.Cond.soleField "FigureSurvey$Figure" "features") ∈ lw_all := lw_g (lw_at lw_m8 87 rfl) rfl
theorem q1841 : (Jvm.Cond.superclass "FigureSurvey$Figure" "java/lang/Object") ∈ lw_all := lw_g (lw_at lw_m8 88 rfl) rfl
theorem q2936 : (Jvm.Cond.castable "FigureSurvey$Figure" "java/lang/Object") ∈ lw_tbl := lw_at lw_m12 223 rfl
theorem in_X5 : ∀ w ∈ wsX50, w ∈ lw_all := lw_in wsX50 [1827, 1829, 1831, 1833, 1835, 1837, 1839] (by decide +kernel) (by decide +kernel)
/-! FigureSurvey$Tracing -/
set_option maxRecDepth 100000
def RX6 : String := "FigureSurvey$Tracing"
def TX6 : u_T := fun k => match k with
  | 0 => ("FigureSurvey$Tracing", "hand", "I", true)
  | 1 => ("FigureSurvey$Tracing", "figure", "LFigureSurvey$Figure;", true)
  | _ => ("FigureSurvey$Tracing", "cells", "J", true)
def tyX6 : Nat → FieldType := fun k => match k with
  | 0 => .int
  | 1 => .object "FigureSurvey$Figure"
  | _ => .long
abbrev wsX60 : List Cond := u_ws RX6 TX6 3
theorem nmX6 : ∀ a, a < 3 → ∀ b, b < 3 → a ≠ b → (TX6 a).2.1 ≠ (TX6 b).2.1 := by decide +kernel
theorem tyX6_ok : ∀ k, k < 3 → parseFieldDescriptor (TX6 k).2.2.1 = some (tyX6 k) := by decide +kernel
abbrev cX6_score : ByteArray := prog_15_method_5_code
def yX6_score : MethodName := ⟨RX6, "score", "()I"⟩
def dkwX6_score_1 : List UInt8 := [182, 0, 27, 184, 0, 38, 96, 108, 172]
abbrev dktX6_score_1 : List UInt8 := dkwX6_score_1 ++ []
def dkwX6_score_0 : List UInt8 := [17, 0, 200, 42, 182, 0, 51, 180, 0, 61, 104, 42, 180, 0, 19, 184, 0, 38, 42, 180, 0, 15]
abbrev dktX6_score_0 : List UInt8 := dkwX6_score_0 ++ dktX6_score_1
theorem dksX6_score_0 : cX6_score.data.toList.drop 0 = dktX6_score_0 := by decide +kernel
theorem dksX6_score_1 : cX6_score.data.toList.drop 22 = dktX6_score_1 := dk_seg dksX6_score_0 22 rfl rfl
theorem dX6_score_0 : decode cX6_score 0 = .ok (.sipush 200, 3) := dk_17 0 200 (dk_at dksX6_score_0 0 rfl rfl)
theorem dX6_score_3 : decode cX6_score 3 = .ok (.aload_n 0, 1) := dk_42 (dk_at dksX6_score_0 3 rfl rfl)
theorem dX6_score_4 : decode cX6_score 4 = .ok (.invokevirtual 51, 3) := dk_182 0 51 (dk_at dksX6_score_0 4 rfl rfl)
theorem dX6_score_7 : decode cX6_score 7 = .ok (.getfield 61, 3) := dk_180 0 61 (dk_at dksX6_score_0 7 rfl rfl)
theorem dX6_score_10 : decode cX6_score 10 = .ok (.imul, 1) := dk_104 (dk_at dksX6_score_0 10 rfl rfl)
theorem dX6_score_11 : decode cX6_score 11 = .ok (.aload_n 0, 1) := dk_42 (dk_at dksX6_score_0 11 rfl rfl)
theorem dX6_score_12 : decode cX6_score 12 = .ok (.getfield 19, 3) := dk_180 0 19 (dk_at dksX6_score_0 12 rfl rfl)
theorem dX6_score_15 : decode cX6_score 15 = .ok (.invokestatic 38, 3) := dk_184 0 38 (dk_at dksX6_score_0 15 rfl rfl)
theorem dX6_score_18 : decode cX6_score 18 = .ok (.aload_n 0, 1) := dk_42 (dk_at dksX6_score_0 18 rfl rfl)
theorem dX6_score_19 : decode cX6_score 19 = .ok (.getfield 15, 3) := dk_180 0 15 (dk_at dksX6_score_0 19 rfl rfl)
theorem dX6_score_22 : decode cX6_score 22 = .ok (.invokevirtual 27, 3) := dk_182 0 27 (dk_at dksX6_score_1 0 rfl rfl)
theorem dX6_score_25 : decode cX6_score 25 = .ok (.invokestatic 38, 3) := dk_184 0 38 (dk_at dksX6_score_1 3 rfl rfl)
theorem dX6_score_28 : decode cX6_score 28 = .ok (.iadd, 1) := dk_96 (dk_at dksX6_score_1 6 rfl rfl)
theorem dX6_score_29 : decode cX6_score 29 = .ok (.idiv, 1) := dk_108 (dk_at dksX6_score_1 7 rfl rfl)
theorem dX6_score_30 : decode cX6_score 30 = .ok (.ireturn, 1) := dk_172 (dk_at dksX6_score_1 8 rfl rfl)
abbrev cX6_best : ByteArray := prog_15_method_3_code
def yX6_best : MethodName := ⟨RX6, "best", "()LFigureSurvey$Shift;"⟩
def dkwX6_best_3 : List UInt8 := [132, 5, 1, 167, 255, 205, 132, 4, 1, 167, 255, 189, 45, 176]
abbrev dktX6_best_3 : List UInt8 := dkwX6_best_3 ++ []
def dkwX6_best_2 : List UInt8 := [184, 0, 38, 183, 0, 44, 58, 6, 45, 198, 0, 12, 25, 6, 45, 182, 0, 47, 156, 0, 6, 25, 6, 78]
abbrev dktX6_best_2 : List UInt8 := dkwX6_best_2 ++ dktX6_best_3
def dkwX6_best_1 : List UInt8 := [21, 5, 5, 163, 0, 51, 187, 0, 32, 89, 21, 5, 21, 4, 42, 21, 5, 21, 4, 182, 0, 34, 31, 127]
abbrev dktX6_best_1 : List UInt8 := dkwX6_best_1 ++ dktX6_best_2
def dkwX6_best_0 : List UInt8 := [42, 180, 0, 15, 182, 0, 27, 64, 1, 78, 16, 254, 54, 4, 21, 4, 5, 163, 0, 67, 16, 254, 54, 5]
abbrev dktX6_best_0 : List UInt8 := dkwX6_best_0 ++ dktX6_best_1
theorem dksX6_best_0 : cX6_best.data.toList.drop 0 = dktX6_best_0 := by decide +kernel
theorem dksX6_best_1 : cX6_best.data.toList.drop 24 = dktX6_best_1 := dk_seg dksX6_best_0 24 rfl rfl
theorem dksX6_best_2 : cX6_best.data.toList.drop 48 = dktX6_best_2 := dk_seg dksX6_best_1 24 rfl rfl
theorem dksX6_best_3 : cX6_best.data.toList.drop 72 = dktX6_best_3 := dk_seg dksX6_best_2 24 rfl rfl
theorem dX6_best_0 : decode cX6_best 0 = .ok (.aload_n 0, 1) := dk_42 (dk_at dksX6_best_0 0 rfl rfl)
theorem dX6_best_1 : decode cX6_best 1 = .ok (.getfield 15, 3) := dk_180 0 15 (dk_at dksX6_best_0 1 rfl rfl)
theorem dX6_best_4 : decode cX6_best 4 = .ok (.invokevirtual 27, 3) := dk_182 0 27 (dk_at dksX6_best_0 4 rfl rfl)
theorem dX6_best_7 : decode cX6_best 7 = .ok (.lstore_n 1, 1) := dk_64 (dk_at dksX6_best_0 7 rfl rfl)
theorem dX6_best_8 : decode cX6_best 8 = .ok (.aconst_null, 1) := dk_1 (dk_at dksX6_best_0 8 rfl rfl)
theorem dX6_best_9 : decode cX6_best 9 = .ok (.astore_n 3, 1) := dk_78 (dk_at dksX6_best_0 9 rfl rfl)
theorem dX6_best_10 : decode cX6_best 10 = .ok (.bipush (-2), 2) := dk_16 254 (dk_at dksX6_best_0 10 rfl rfl)
theorem dX6_best_12 : decode cX6_best 12 = .ok (.istore 4, 2) := dk_54 4 (dk_at dksX6_best_0 12 rfl rfl)
theorem dX6_best_14 : decode cX6_best 14 = .ok (.iload 4, 2) := dk_21 4 (dk_at dksX6_best_0 14 rfl rfl)
theorem dX6_best_16 : decode cX6_best 16 = .ok (.iconst 2, 1) := dk_5 (dk_at dksX6_best_0 16 rfl rfl)
theorem dX6_best_17 : decode cX6_best 17 = .ok (.if_icmp .gt 67, 3) := dk_163 0 67 (dk_at dksX6_best_0 17 rfl rfl)
theorem dX6_best_20 : decode cX6_best 20 = .ok (.bipush (-2), 2) := dk_16 254 (dk_at dksX6_best_0 20 rfl rfl)
theorem dX6_best_22 : decode cX6_best 22 = .ok (.istore 5, 2) := dk_54 5 (dk_at dksX6_best_0 22 rfl rfl)
theorem dX6_best_24 : decode cX6_best 24 = .ok (.iload 5, 2) := dk_21 5 (dk_at dksX6_best_1 0 rfl rfl)
theorem dX6_best_26 : decode cX6_best 26 = .ok (.iconst 2, 1) := dk_5 (dk_at dksX6_best_1 2 rfl rfl)
theorem dX6_best_27 : decode cX6_best 27 = .ok (.if_icmp .gt 51, 3) := dk_163 0 51 (dk_at dksX6_best_1 3 rfl rfl)
theorem dX6_best_30 : decode cX6_best 30 = .ok (.new 32, 3) := dk_187 0 32 (dk_at dksX6_best_1 6 rfl rfl)
theorem dX6_best_33 : decode cX6_best 33 = .ok (.dup, 1) := dk_89 (dk_at dksX6_best_1 9 rfl rfl)
theorem dX6_best_34 : decode cX6_best 34 = .ok (.iload 5, 2) := dk_21 5 (dk_at dksX6_best_1 10 rfl rfl)
theorem dX6_best_36 : decode cX6_best 36 = .ok (.iload 4, 2) := dk_21 4 (dk_at dksX6_best_1 12 rfl rfl)
theorem dX6_best_38 : decode cX6_best 38 = .ok (.aload_n 0, 1) := dk_42 (dk_at dksX6_best_1 14 rfl rfl)
theorem dX6_best_39 : decode cX6_best 39 = .ok (.iload 5, 2) := dk_21 5 (dk_at dksX6_best_1 15 rfl rfl)
theorem dX6_best_41 : decode cX6_best 41 = .ok (.iload 4, 2) := dk_21 4 (dk_at dksX6_best_1 17 rfl rfl)
theorem dX6_best_43 : decode cX6_best 43 = .ok (.invokevirtual 34, 3) := dk_182 0 34 (dk_at dksX6_best_1 19 rfl rfl)
theorem dX6_best_46 : decode cX6_best 46 = .ok (.lload_n 1, 1) := dk_31 (dk_at dksX6_best_1 22 rfl rfl)
theorem dX6_best_47 : decode cX6_best 47 = .ok (.land, 1) := dk_127 (dk_at dksX6_best_1 23 rfl rfl)
theorem dX6_best_48 : decode cX6_best 48 = .ok (.invokestatic 38, 3) := dk_184 0 38 (dk_at dksX6_best_2 0 rfl rfl)
theorem dX6_best_51 : decode cX6_best 51 = .ok (.invokespecial 44, 3) := dk_183 0 44 (dk_at dksX6_best_2 3 rfl rfl)
theorem dX6_best_54 : decode cX6_best 54 = .ok (.astore 6, 2) := dk_58 6 (dk_at dksX6_best_2 6 rfl rfl)
theorem dX6_best_56 : decode cX6_best 56 = .ok (.aload_n 3, 1) := dk_45 (dk_at dksX6_best_2 8 rfl rfl)
theorem dX6_best_57 : decode cX6_best 57 = .ok (.ifnull 12, 3) := dk_198 0 12 (dk_at dksX6_best_2 9 rfl rfl)
theorem dX6_best_60 : decode cX6_best 60 = .ok (.aload 6, 2) := dk_25 6 (dk_at dksX6_best_2 12 rfl rfl)
theorem dX6_best_62 : decode cX6_best 62 = .ok (.aload_n 3, 1) := dk_45 (dk_at dksX6_best_2 14 rfl rfl)
theorem dX6_best_63 : decode cX6_best 63 = .ok (.invokevirtual 47, 3) := dk_182 0 47 (dk_at dksX6_best_2 15 rfl rfl)
theorem dX6_best_66 : decode cX6_best 66 = .ok (.ifCond .ge 6, 3) := dk_156 0 6 (dk_at dksX6_best_2 18 rfl rfl)
theorem dX6_best_69 : decode cX6_best 69 = .ok (.aload 6, 2) := dk_25 6 (dk_at dksX6_best_2 21 rfl rfl)
theorem dX6_best_71 : decode cX6_best 71 = .ok (.astore_n 3, 1) := dk_78 (dk_at dksX6_best_2 23 rfl rfl)
theorem dX6_best_72 : decode cX6_best 72 = .ok (.iinc 5 1, 3) := dk_132 5 1 (dk_at dksX6_best_3 0 rfl rfl)
theorem dX6_best_75 : decode cX6_best 75 = .ok (.goto (-51), 3) := dk_167 255 205 (dk_at dksX6_best_3 3 rfl rfl)
theorem dX6_best_78 : decode cX6_best 78 = .ok (.iinc 4 1, 3) := dk_132 4 1 (dk_at dksX6_best_3 6 rfl rfl)
theorem dX6_best_81 : decode cX6_best 81 = .ok (.goto (-67), 3) := dk_167 255 189 (dk_at dksX6_best_3 9 rfl rfl)
theorem dX6_best_84 : decode cX6_best 84 = .ok (.aload_n 3, 1) := dk_45 (dk_at dksX6_best_3 12 rfl rfl)
theorem dX6_best_85 : decode cX6_best 85 = .ok (.areturn, 1) := dk_176 (dk_at dksX6_best_3 13 rfl rfl)
abbrev cX6_shifted : ByteArray := prog_15_method_2_code
def yX6_shifted : MethodName := ⟨RX6, "shifted", "(II)J"⟩
def dkwX6_shifted_3 : List UInt8 := [21, 7, 104, 21, 6, 96, 121, 129, 66, 132, 5, 1, 167, 255, 179, 33, 173]
abbrev dktX6_shifted_3 : List UInt8 := dkwX6_shifted_3 ++ []
def dkwX6_shifted_2 : List UInt8 := [21, 6, 16, 8, 162, 0, 28, 21, 7, 155, 0, 23, 21, 7, 16, 8, 162, 0, 16, 33, 10, 16, 8]
abbrev dktX6_shifted_2 : List UInt8 := dkwX6_shifted_2 ++ dktX6_shifted_3
def dkwX6_shifted_1 : List UInt8 := [16, 8, 108, 28, 96, 54, 7, 42, 180, 0, 19, 21, 5, 184, 0, 23, 153, 0, 40, 21, 6, 155, 0, 35]
abbrev dktX6_shifted_1 : List UInt8 := dkwX6_shifted_1 ++ dktX6_shifted_2
def dkwX6_shifted_0 : List UInt8 := [9, 66, 3, 54, 5, 21, 5, 16, 64, 162, 0, 76, 21, 5, 16, 8, 112, 27, 96, 54, 6, 21, 5]
abbrev dktX6_shifted_0 : List UInt8 := dkwX6_shifted_0 ++ dktX6_shifted_1
theorem dksX6_shifted_0 : cX6_shifted.data.toList.drop 0 = dktX6_shifted_0 := by decide +kernel
theorem dksX6_shifted_1 : cX6_shifted.data.toList.drop 23 = dktX6_shifted_1 := dk_seg dksX6_shifted_0 23 rfl rfl
theorem dksX6_shifted_2 : cX6_shifted.data.toList.drop 47 = dktX6_shifted_2 := dk_seg dksX6_shifted_1 24 rfl rfl
theorem dksX6_shifted_3 : cX6_shifted.data.toList.drop 70 = dktX6_shifted_3 := dk_seg dksX6_shifted_2 23 rfl rfl
theorem dX6_shifted_0 : decode cX6_shifted 0 = .ok (.lconst 0, 1) := dk_9 (dk_at dksX6_shifted_0 0 rfl rfl)
theorem dX6_shifted_1 : decode cX6_shifted 1 = .ok (.lstore_n 3, 1) := dk_66 (dk_at dksX6_shifted_0 1 rfl rfl)
theorem dX6_shifted_2 : decode cX6_shifted 2 = .ok (.iconst 0, 1) := dk_3 (dk_at dksX6_shifted_0 2 rfl rfl)
theorem dX6_shifted_3 : decode cX6_shifted 3 = .ok (.istore 5, 2) := dk_54 5 (dk_at dksX6_shifted_0 3 rfl rfl)
theorem dX6_shifted_5 : decode cX6_shifted 5 = .ok (.iload 5, 2) := dk_21 5 (dk_at dksX6_shifted_0 5 rfl rfl)
theorem dX6_shifted_7 : decode cX6_shifted 7 = .ok (.bipush 64, 2) := dk_16 64 (dk_at dksX6_shifted_0 7 rfl rfl)
theorem dX6_shifted_9 : decode cX6_shifted 9 = .ok (.if_icmp .ge 76, 3) := dk_162 0 76 (dk_at dksX6_shifted_0 9 rfl rfl)
theorem dX6_shifted_12 : decode cX6_shifted 12 = .ok (.iload 5, 2) := dk_21 5 (dk_at dksX6_shifted_0 12 rfl rfl)
theorem dX6_shifted_14 : decode cX6_shifted 14 = .ok (.bipush 8, 2) := dk_16 8 (dk_at dksX6_shifted_0 14 rfl rfl)
theorem dX6_shifted_16 : decode cX6_shifted 16 = .ok (.irem, 1) := dk_112 (dk_at dksX6_shifted_0 16 rfl rfl)
theorem dX6_shifted_17 : decode cX6_shifted 17 = .ok (.iload_n 1, 1) := dk_27 (dk_at dksX6_shifted_0 17 rfl rfl)
theorem dX6_shifted_18 : decode cX6_shifted 18 = .ok (.iadd, 1) := dk_96 (dk_at dksX6_shifted_0 18 rfl rfl)
theorem dX6_shifted_19 : decode cX6_shifted 19 = .ok (.istore 6, 2) := dk_54 6 (dk_at dksX6_shifted_0 19 rfl rfl)
theorem dX6_shifted_21 : decode cX6_shifted 21 = .ok (.iload 5, 2) := dk_21 5 (dk_at dksX6_shifted_0 21 rfl rfl)
theorem dX6_shifted_23 : decode cX6_shifted 23 = .ok (.bipush 8, 2) := dk_16 8 (dk_at dksX6_shifted_1 0 rfl rfl)
theorem dX6_shifted_25 : decode cX6_shifted 25 = .ok (.idiv, 1) := dk_108 (dk_at dksX6_shifted_1 2 rfl rfl)
theorem dX6_shifted_26 : decode cX6_shifted 26 = .ok (.iload_n 2, 1) := dk_28 (dk_at dksX6_shifted_1 3 rfl rfl)
theorem dX6_shifted_27 : decode cX6_shifted 27 = .ok (.iadd, 1) := dk_96 (dk_at dksX6_shifted_1 4 rfl rfl)
theorem dX6_shifted_28 : decode cX6_shifted 28 = .ok (.istore 7, 2) := dk_54 7 (dk_at dksX6_shifted_1 5 rfl rfl)
theorem dX6_shifted_30 : decode cX6_shifted 30 = .ok (.aload_n 0, 1) := dk_42 (dk_at dksX6_shifted_1 7 rfl rfl)
theorem dX6_shifted_31 : decode cX6_shifted 31 = .ok (.getfield 19, 3) := dk_180 0 19 (dk_at dksX6_shifted_1 8 rfl rfl)
theorem dX6_shifted_34 : decode cX6_shifted 34 = .ok (.iload 5, 2) := dk_21 5 (dk_at dksX6_shifted_1 11 rfl rfl)
theorem dX6_shifted_36 : decode cX6_shifted 36 = .ok (.invokestatic 23, 3) := dk_184 0 23 (dk_at dksX6_shifted_1 13 rfl rfl)
theorem dX6_shifted_39 : decode cX6_shifted 39 = .ok (.ifCond .eq 40, 3) := dk_153 0 40 (dk_at dksX6_shifted_1 16 rfl rfl)
theorem dX6_shifted_42 : decode cX6_shifted 42 = .ok (.iload 6, 2) := dk_21 6 (dk_at dksX6_shifted_1 19 rfl rfl)
theorem dX6_shifted_44 : decode cX6_shifted 44 = .ok (.ifCond .lt 35, 3) := dk_155 0 35 (dk_at dksX6_shifted_1 21 rfl rfl)
theorem dX6_shifted_47 : decode cX6_shifted 47 = .ok (.iload 6, 2) := dk_21 6 (dk_at dksX6_shifted_2 0 rfl rfl)
theorem dX6_shifted_49 : decode cX6_shifted 49 = .ok (.bipush 8, 2) := dk_16 8 (dk_at dksX6_shifted_2 2 rfl rfl)
theorem dX6_shifted_51 : decode cX6_shifted 51 = .ok (.if_icmp .ge 28, 3) := dk_162 0 28 (dk_at dksX6_shifted_2 4 rfl rfl)
theorem dX6_shifted_54 : decode cX6_shifted 54 = .ok (.iload 7, 2) := dk_21 7 (dk_at dksX6_shifted_2 7 rfl rfl)
theorem dX6_shifted_56 : decode cX6_shifted 56 = .ok (.ifCond .lt 23, 3) := dk_155 0 23 (dk_at dksX6_shifted_2 9 rfl rfl)
theorem dX6_shifted_59 : decode cX6_shifted 59 = .ok (.iload 7, 2) := dk_21 7 (dk_at dksX6_shifted_2 12 rfl rfl)
theorem dX6_shifted_61 : decode cX6_shifted 61 = .ok (.bipush 8, 2) := dk_16 8 (dk_at dksX6_shifted_2 14 rfl rfl)
theorem dX6_shifted_63 : decode cX6_shifted 63 = .ok (.if_icmp .ge 16, 3) := dk_162 0 16 (dk_at dksX6_shifted_2 16 rfl rfl)
theorem dX6_shifted_66 : decode cX6_shifted 66 = .ok (.lload_n 3, 1) := dk_33 (dk_at dksX6_shifted_2 19 rfl rfl)
theorem dX6_shifted_67 : decode cX6_shifted 67 = .ok (.lconst 1, 1) := dk_10 (dk_at dksX6_shifted_2 20 rfl rfl)
theorem dX6_shifted_68 : decode cX6_shifted 68 = .ok (.bipush 8, 2) := dk_16 8 (dk_at dksX6_shifted_2 21 rfl rfl)
theorem dX6_shifted_70 : decode cX6_shifted 70 = .ok (.iload 7, 2) := dk_21 7 (dk_at dksX6_shifted_3 0 rfl rfl)
theorem dX6_shifted_72 : decode cX6_shifted 72 = .ok (.imul, 1) := dk_104 (dk_at dksX6_shifted_3 2 rfl rfl)
theorem dX6_shifted_73 : decode cX6_shifted 73 = .ok (.iload 6, 2) := dk_21 6 (dk_at dksX6_shifted_3 3 rfl rfl)
theorem dX6_shifted_75 : decode cX6_shifted 75 = .ok (.iadd, 1) := dk_96 (dk_at dksX6_shifted_3 5 rfl rfl)
theorem dX6_shifted_76 : decode cX6_shifted 76 = .ok (.lshl, 1) := dk_121 (dk_at dksX6_shifted_3 6 rfl rfl)
theorem dX6_shifted_77 : decode cX6_shifted 77 = .ok (.lor, 1) := dk_129 (dk_at dksX6_shifted_3 7 rfl rfl)
theorem dX6_shifted_78 : decode cX6_shifted 78 = .ok (.lstore_n 3, 1) := dk_66 (dk_at dksX6_shifted_3 8 rfl rfl)
theorem dX6_shifted_79 : decode cX6_shifted 79 = .ok (.iinc 5 1, 3) := dk_132 5 1 (dk_at dksX6_shifted_3 9 rfl rfl)
theorem dX6_shifted_82 : decode cX6_shifted 82 = .ok (.goto (-77), 3) := dk_167 255 179 (dk_at dksX6_shifted_3 12 rfl rfl)
theorem dX6_shifted_85 : decode cX6_shifted 85 = .ok (.lload_n 3, 1) := dk_33 (dk_at dksX6_shifted_3 15 rfl rfl)
theorem dX6_shifted_86 : decode cX6_shifted 86 = .ok (.lreturn, 1) := dk_173 (dk_at dksX6_shifted_3 16 rfl rfl)
abbrev cX6_init : ByteArray := prog_15_method_1_code
def yX6_init : MethodName := ⟨RX6, "<init>", "(ILFigureSurvey$Figure;J)V"⟩
def dkwX6_init_0 : List UInt8 := [42, 183, 0, 3, 42, 27, 181, 0, 9, 42, 44, 181, 0, 15, 42, 33, 181, 0, 19, 177]
abbrev dktX6_init_0 : List UInt8 := dkwX6_init_0 ++ []
theorem dksX6_init_0 : cX6_init.data.toList.drop 0 = dktX6_init_0 := by decide +kernel
theorem dX6_init_0 : decode cX6_init 0 = .ok (.aload_n 0, 1) := dk_42 (dk_at dksX6_init_0 0 rfl rfl)
theorem dX6_init_1 : decode cX6_init 1 = .ok (.invokespecial 3, 3) := dk_183 0 3 (dk_at dksX6_init_0 1 rfl rfl)
theorem dX6_init_4 : decode cX6_init 4 = .ok (.aload_n 0, 1) := dk_42 (dk_at dksX6_init_0 4 rfl rfl)
theorem dX6_init_5 : decode cX6_init 5 = .ok (.iload_n 1, 1) := dk_27 (dk_at dksX6_init_0 5 rfl rfl)
theorem dX6_init_6 : decode cX6_init 6 = .ok (.putfield 9, 3) := dk_181 0 9 (dk_at dksX6_init_0 6 rfl rfl)
theorem dX6_init_9 : decode cX6_init 9 = .ok (.aload_n 0, 1) := dk_42 (dk_at dksX6_init_0 9 rfl rfl)
theorem dX6_init_10 : decode cX6_init 10 = .ok (.aload_n 2, 1) := dk_44 (dk_at dksX6_init_0 10 rfl rfl)
theorem dX6_init_11 : decode cX6_init 11 = .ok (.putfield 15, 3) := dk_181 0 15 (dk_at dksX6_init_0 11 rfl rfl)
theorem dX6_init_14 : decode cX6_init 14 = .ok (.aload_n 0, 1) := dk_42 (dk_at dksX6_init_0 14 rfl rfl)
theorem dX6_init_15 : decode cX6_init 15 = .ok (.lload_n 3, 1) := dk_33 (dk_at dksX6_init_0 15 rfl rfl)
theorem dX6_init_16 : decode cX6_init 16 = .ok (.putfield 19, 3) := dk_181 0 19 (dk_at dksX6_init_0 16 rfl rfl)
theorem dX6_init_19 : decode cX6_init 19 = .ok (.return_, 1) := dk_177 (dk_at dksX6_init_0 19 rfl rfl)
abbrev cX6_aligned : ByteArray := prog_15_method_4_code
def yX6_aligned : MethodName := ⟨RX6, "aligned", "()J"⟩
def dkwX6_aligned_0 : List UInt8 := [42, 182, 0, 51, 76, 42, 43, 180, 0, 55, 43, 180, 0, 58, 182, 0, 34, 173]
abbrev dktX6_aligned_0 : List UInt8 := dkwX6_aligned_0 ++ []
theorem dksX6_aligned_0 : cX6_aligned.data.toList.drop 0 = dktX6_aligned_0 := by decide +kernel
theorem dX6_aligned_0 : decode cX6_aligned 0 = .ok (.aload_n 0, 1) := dk_42 (dk_at dksX6_aligned_0 0 rfl rfl)
theorem dX6_aligned_1 : decode cX6_aligned 1 = .ok (.invokevirtual 51, 3) := dk_182 0 51 (dk_at dksX6_aligned_0 1 rfl rfl)
theorem dX6_aligned_4 : decode cX6_aligned 4 = .ok (.astore_n 1, 1) := dk_76 (dk_at dksX6_aligned_0 4 rfl rfl)
theorem dX6_aligned_5 : decode cX6_aligned 5 = .ok (.aload_n 0, 1) := dk_42 (dk_at dksX6_aligned_0 5 rfl rfl)
theorem dX6_aligned_6 : decode cX6_aligned 6 = .ok (.aload_n 1, 1) := dk_43 (dk_at dksX6_aligned_0 6 rfl rfl)
theorem dX6_aligned_7 : decode cX6_aligned 7 = .ok (.getfield 55, 3) := dk_180 0 55 (dk_at dksX6_aligned_0 7 rfl rfl)
theorem dX6_aligned_10 : decode cX6_aligned 10 = .ok (.aload_n 1, 1) := dk_43 (dk_at dksX6_aligned_0 10 rfl rfl)
theorem dX6_aligned_11 : decode cX6_aligned 11 = .ok (.getfield 58, 3) := dk_180 0 58 (dk_at dksX6_aligned_0 11 rfl rfl)
theorem dX6_aligned_14 : decode cX6_aligned 14 = .ok (.invokevirtual 34, 3) := dk_182 0 34 (dk_at dksX6_aligned_0 14 rfl rfl)
theorem dX6_aligned_17 : decode cX6_aligned 17 = .ok (.lreturn, 1) := dk_173 (dk_at dksX6_aligned_0 17 rfl rfl)
theorem q102 : (Jvm.Cond.initialized "FigureSurvey$Tracing") ∈ lw_all := lw_g (lw_at lw_m1 29 rfl) rfl
theorem q447 : (Jvm.Cond.selects "FigureSurvey$Tracing" ({ cls := "java/lang/Object", name := "getClass", desc := "()Ljava/lang/Class;" } : Jvm.MethodName) ({ cls := "java/lang/Object", name := "getClass", desc := "()Ljava/lang/Class;" } : Jvm.MethodName)) ∈ lw_all := lw_g (lw_at lw_m2 134 rfl) rfl
theorem q530 : (Jvm.Cond.instanceMethod ({ cls := "FigureSurvey$Tracing", name := "score", desc := "()I" } : Jvm.MethodName)) ∈ lw_all := lw_g (lw_at lw_m2 217 rfl) rfl
theorem q531 : (Jvm.Cond.selects "FigureSurvey$Tracing" ({ cls := "FigureSurvey$Tracing", name := "score", desc := "()I" } : Jvm.MethodName) ({ cls := "FigureSurvey$Tracing", name := "score", desc := "()I" } : Jvm.MethodName)) ∈ lw_all := lw_g (lw_at lw_m2 218 rfl) rfl
theorem q532 : (Jvm.Cond.code ({ cls := "FigureSurvey$Tracing", name := "score", desc := "()I" } : Jvm.MethodName) prog_15_method_5_code (1 : Nat) (Option.some Jvm.ClassFile.FieldType.int)) ∈ lw_all := lw_g (lw_at lw_m2 219 rfl) rfl
theorem q533 : (Jvm.Cond.methodLink "FigureSurvey$Tracing" (51 : Nat) ({ cls := "FigureSurvey$Tracing", name := "best", desc := "()LFigureSurvey$Shift;" } : Jvm.MethodName)) ∈ lw_all := lw_g (lw_at lw_m2 220 rfl) rfl
theorem q534 : (Jvm.Cond.instanceMethod ({ cls := "FigureSurvey$Tracing", name := "best", desc := "()LFigureSurvey$Shift;" } : Jvm.MethodName)) ∈ lw_all := lw_g (lw_at lw_m2 221 rfl) rfl
theorem q535 : (Jvm.Cond.selects "FigureSurvey$Tracing" ({ cls := "FigureSurvey$Tracing", name := "best", desc := "()LFigureSurvey$Shift;" } : Jvm.MethodName) ({ cls := "FigureSurvey$Tracing", name := "best", desc := "()LFigureSurvey$Shift;" } : Jvm.MethodName)) ∈ lw_all := lw_g (lw_at lw_m2 222 rfl) rfl
theorem q536 : (Jvm.Cond.code ({ cls := "FigureSurvey$Tracing", name := "best", desc := "()LFigureSurvey$Shift;" } : Jvm.MethodName) prog_15_method_3_code (7 : Nat) (Option.some (Jvm.ClassFile.FieldType.object "FigureSurvey$Shift"))) ∈ lw_all := lw_g (lw_at lw_m2 223 rfl) rfl
theorem q537 : (Jvm.Cond.methodLink "FigureSurvey$Tracing" (27 : Nat) ({ cls := "FigureSurvey$Figure", name := "cells", desc := "()J" } : Jvm.MethodName)) ∈ lw_all := lw_g (lw_at lw_m2 224 rfl) rfl
theorem q547 : (Jvm.Cond.classLink "FigureSurvey$Tracing" (32 : Nat) "FigureSurvey$Shift") ∈ lw_all := lw_g (lw_at lw_m2 234 rfl) rfl
theorem q549 : (Jvm.Cond.methodLink "FigureSurvey$Tracing" (34 : Nat) ({ cls := "FigureSurvey$Tracing", name := "shifted", desc := "(II)J" } : Jvm.MethodName)) ∈ lw_all := lw_g (lw_at lw_m2 236 rfl) rfl
theorem q550 : (Jvm.Cond.privateMethod ({ cls := "FigureSurvey$Tracing", name := "shifted", desc := "(II)J" } : Jvm.MethodName)) ∈ lw_tbl := lw_at lw_m2 237 rfl
theorem q551 : (Jvm.Cond.instanceMethod ({ cls := "FigureSurvey$Tracing", name := "shifted", desc := "(II)J" } : Jvm.MethodName)) ∈ lw_all := lw_g (lw_at lw_m2 238 rfl) rfl
theorem q552 : (Jvm.Cond.instantiable "FigureSurvey$Tracing" (3 : Nat)) ∈ lw_all := lw_g (lw_at lw_m2 239 rfl) rfl
theorem q553 : (Jvm.Cond.code ({ cls := "FigureSurvey$Tracing", name := "shifted", desc := "(II)J" } : Jvm.MethodName) prog_15_method_2_code (8 : Nat) (Option.some Jvm.ClassFile.FieldType.long)) ∈ lw_all := lw_g (lw_at lw_m3 0 rfl) rfl
theorem q554 : (Jvm.Cond.methodLinkNest "FigureSurvey$Tracing" (23 : Nat) ({ cls := "FigureSurvey", name := "has", desc := "(JI)Z" } : Jvm.MethodName) "FigureSurvey") ∈ lw_tbl := lw_at lw_m3 1 rfl
theorem q557 : (Jvm.Cond.methodLink "FigureSurvey$Tracing" (38 : Nat) ({ cls := "java/lang/Long", name := "bitCount", desc := "(J)I" } : Jvm.MethodName)) ∈ lw_all := lw_g (lw_at lw_m3 4 rfl) rfl
theorem q563 : (Jvm.Cond.methodLink "FigureSurvey$Tracing" (44 : Nat) ({ cls := "FigureSurvey$Shift", name := "<init>", desc := "(III)V" } : Jvm.MethodName)) ∈ lw_all := lw_g (lw_at lw_m3 10 rfl) rfl
theorem q568 : (Jvm.Cond.fieldLink "FigureSurvey$Tracing" (55 : Nat) "FigureSurvey$Shift" "dx" "I") ∈ lw_all := lw_g (lw_at lw_m3 15 rfl) rfl
theorem q571 : (Jvm.Cond.fieldLink "FigureSurvey$Tracing" (58 : Nat) "FigureSurvey$Shift" "dy" "I") ∈ lw_all := lw_g (lw_at lw_m3 18 rfl) rfl
theorem q574 : (Jvm.Cond.fieldLink "FigureSurvey$Tracing" (61 : Nat) "FigureSurvey$Shift" "common" "I") ∈ lw_all := lw_g (lw_at lw_m3 21 rfl) rfl
theorem q582 : (Jvm.Cond.methodLink "FigureSurvey$Tracing" (47 : Nat) ({ cls := "FigureSurvey$Shift", name := "compareTo", desc := "(LFigureSurvey$Shift;)I" } : Jvm.MethodName)) ∈ lw_all := lw_g (lw_at lw_m3 29 rfl) rfl
theorem q1217 : (Jvm.Cond.selects "FigureSurvey$Tracing" ({ cls := "java/lang/Object", name := "equals", desc := "(Ljava/lang/Object;)Z" } : Jvm.MethodName) ({ cls := "java/lang/Object", name := "equals", desc := "(Ljava/lang/Object;)Z" } : Jvm.MethodName)) ∈ lw_all := lw_g (lw_at lw_m5 184 rfl) rfl
theorem q1918 : (Jvm.Cond.instanceMethod ({ cls := "FigureSurvey$Tracing", name := "<init>", desc := "(ILFigureSurvey$Figure;J)V" } : Jvm.MethodName)) ∈ lw_all := lw_g (lw_at lw_m8 165 rfl) rfl
theorem q1919 : (Jvm.Cond.code ({ cls := "FigureSurvey$Tracing", name := "<init>", desc := "(ILFigureSurvey$Figure;J)V" } : Jvm.MethodName) prog_15_method_1_code (5 : Nat) (Option.none : Option Jvm.ClassFile.FieldType)) ∈ lw_all := lw_g (lw_at lw_m8 166 rfl) rfl
theorem q1920 : (Jvm.Cond.methodLink "FigureSurvey$Tracing" (3 : Nat) ({ cls := "java/lang/Object", name := "<init>", desc := "()V" } : Jvm.MethodName)) ∈ lw_all := lw_g (lw_at lw_m8 167 rfl) rfl
theorem q1921 : (Jvm.Cond.fieldLink "FigureSurvey$Tracing" (9 : Nat) "FigureSurvey$Tracing" "hand" "I") ∈ lw_all := lw_g (lw_at lw_m8 168 rfl) rfl
theorem q1923 : (Jvm.Cond.fieldLink "FigureSurvey$Tracing" (15 : Nat) "FigureSurvey$Tracing" "figure" "LFigureSurvey$Figure;") ∈ lw_all := lw_g (lw_at lw_m8 170 rfl) rfl
theorem q1924 : (Jvm.Cond.fieldLink "FigureSurvey$Tracing" (19 : Nat) "FigureSurvey$Tracing" "cells" "J") ∈ lw_all := lw_g (lw_at lw_m8 171 rfl) rfl
theorem q1925 : (Jvm.Cond.laysFinal "FigureSurvey$Tracing" "FigureSurvey$Tracing" "hand" "I") ∈ lw_all := lw_g (lw_at lw_m8 172 rfl) rfl
theorem q1926 : (Jvm.Cond.soleField "FigureSurvey$Tracing" "hand") ∈ lw_all := lw_g (lw_at lw_m8 173 rfl) rfl
theorem q1927 : (Jvm.Cond.laysFinal "FigureSurvey$Tracing" "FigureSurvey$Tracing" "figure" "LFigureSurvey$Figure;") ∈ lw_all := lw_g (lw_at lw_m8 174 rfl) rfl
theorem q1928 : (Jvm.Cond.soleField "FigureSurvey$Tracing" "figure") ∈ lw_all := lw_g (lw_at lw_m8 175 rfl) rfl
theorem q1929 : (Jvm.Cond.laysFinal "FigureSurvey$Tracing" "FigureSurvey$Tracing" "cells" "J") ∈ lw_all := lw_g (lw_at lw_m8 176 rfl) rfl
theorem q1930 : (Jvm.Cond.soleField "FigureSurvey$Tracing" "cells") ∈ lw_all := lw_g (lw_at lw_m8 177 rfl) rfl
theorem q1931 : (Jvm.Cond.superclass "FigureSurvey$Tracing" "java/lang/Object") ∈ lw_all := lw_g (lw_at lw_m8 178 rfl) rfl
theorem q1967 : (Jvm.Cond.instanceMethod ({ cls := "FigureSurvey$Tracing", name := "aligned", desc := "()J" } : Jvm.MethodName)) ∈ lw_all := lw_g (lw_at lw_m8 214 rfl) rfl
theorem q1968 : (Jvm.Cond.selects "FigureSurvey$Tracing" ({ cls := "FigureSurvey$Tracing", name := "aligned", desc := "()J" } : Jvm.MethodName) ({ cls := "FigureSurvey$Tracing", name := "aligned", desc := "()J" } : Jvm.MethodName)) ∈ lw_all := lw_g (lw_at lw_m8 215 rfl) rfl
theorem q1969 : (Jvm.Cond.code ({ cls := "FigureSurvey$Tracing", name := "aligned", desc := "()J" } : Jvm.MethodName) prog_15_method_4_code (2 : Nat) (Option.some Jvm.ClassFile.FieldType.long)) ∈ lw_all := lw_g (lw_at lw_m8 216 rfl) rfl
theorem q2937 : (Jvm.Cond.castable "FigureSurvey$Tracing" "java/lang/Object") ∈ lw_tbl := lw_at lw_m12 224 rfl
theorem in_X6 : ∀ w ∈ wsX60, w ∈ lw_all := lw_in wsX60 [1925, 1927, 1929] (by decide +kernel) (by decide +kernel)
/-! FigureSurvey$Shift -/
set_option maxRecDepth 100000
def RX7 : String := "FigureSurvey$Shift"
def TX7 : u_T := fun k => match k with
  | 0 => ("FigureSurvey$Shift", "dx", "I", true)
  | 1 => ("FigureSurvey$Shift", "dy", "I", true)
  | _ => ("FigureSurvey$Shift", "common", "I", true)
def tyX7 : Nat → FieldType := fun k => match k with
  | 0 => .int
  | 1 => .int
  | _ => .int
abbrev wsX70 : List Cond := u_ws RX7 TX7 3
theorem nmX7 : ∀ a, a < 3 → ∀ b, b < 3 → a ≠ b → (TX7 a).2.1 ≠ (TX7 b).2.1 := by decide +kernel
theorem tyX7_ok : ∀ k, k < 3 → parseFieldDescriptor (TX7 k).2.2.1 = some (tyX7 k) := by decide +kernel
abbrev cX7_init : ByteArray := prog_13_method_1_code
def yX7_init : MethodName := ⟨RX7, "<init>", "(III)V"⟩
def dkwX7_init_0 : List UInt8 := [42, 183, 0, 1, 42, 27, 181, 0, 7, 42, 28, 181, 0, 13, 42, 29, 181, 0, 16, 177]
abbrev dktX7_init_0 : List UInt8 := dkwX7_init_0 ++ []
theorem dksX7_init_0 : cX7_init.data.toList.drop 0 = dktX7_init_0 := by decide +kernel
theorem dX7_init_0 : decode cX7_init 0 = .ok (.aload_n 0, 1) := dk_42 (dk_at dksX7_init_0 0 rfl rfl)
theorem dX7_init_1 : decode cX7_init 1 = .ok (.invokespecial 1, 3) := dk_183 0 1 (dk_at dksX7_init_0 1 rfl rfl)
theorem dX7_init_4 : decode cX7_init 4 = .ok (.aload_n 0, 1) := dk_42 (dk_at dksX7_init_0 4 rfl rfl)
theorem dX7_init_5 : decode cX7_init 5 = .ok (.iload_n 1, 1) := dk_27 (dk_at dksX7_init_0 5 rfl rfl)
theorem dX7_init_6 : decode cX7_init 6 = .ok (.putfield 7, 3) := dk_181 0 7 (dk_at dksX7_init_0 6 rfl rfl)
theorem dX7_init_9 : decode cX7_init 9 = .ok (.aload_n 0, 1) := dk_42 (dk_at dksX7_init_0 9 rfl rfl)
theorem dX7_init_10 : decode cX7_init 10 = .ok (.iload_n 2, 1) := dk_28 (dk_at dksX7_init_0 10 rfl rfl)
theorem dX7_init_11 : decode cX7_init 11 = .ok (.putfield 13, 3) := dk_181 0 13 (dk_at dksX7_init_0 11 rfl rfl)
theorem dX7_init_14 : decode cX7_init 14 = .ok (.aload_n 0, 1) := dk_42 (dk_at dksX7_init_0 14 rfl rfl)
theorem dX7_init_15 : decode cX7_init 15 = .ok (.iload_n 3, 1) := dk_29 (dk_at dksX7_init_0 15 rfl rfl)
theorem dX7_init_16 : decode cX7_init 16 = .ok (.putfield 16, 3) := dk_181 0 16 (dk_at dksX7_init_0 16 rfl rfl)
theorem dX7_init_19 : decode cX7_init 19 = .ok (.return_, 1) := dk_177 (dk_at dksX7_init_0 19 rfl rfl)
abbrev cX7_compareTo : ByteArray := prog_13_method_3_code
def yX7_compareTo : MethodName := ⟨RX7, "compareTo", "(LFigureSurvey$Shift;)I"⟩
def dkwX7_compareTo_3 : List UInt8 := [42, 180, 0, 7, 43, 180, 0, 7, 184, 0, 25, 172]
abbrev dktX7_compareTo_3 : List UInt8 := dkwX7_compareTo_3 ++ []
def dkwX7_compareTo_2 : List UInt8 := [180, 0, 13, 43, 180, 0, 13, 159, 0, 17, 42, 180, 0, 13, 43, 180, 0, 13, 184, 0, 25, 167, 0, 14]
abbrev dktX7_compareTo_2 : List UInt8 := dkwX7_compareTo_2 ++ dktX7_compareTo_3
def dkwX7_compareTo_1 : List UInt8 := [182, 0, 31, 43, 182, 0, 31, 159, 0, 15, 42, 182, 0, 31, 43, 182, 0, 31, 184, 0, 25, 172, 42]
abbrev dktX7_compareTo_1 : List UInt8 := dkwX7_compareTo_1 ++ dktX7_compareTo_2
def dkwX7_compareTo_0 : List UInt8 := [42, 180, 0, 16, 43, 180, 0, 16, 159, 0, 15, 43, 180, 0, 16, 42, 180, 0, 16, 184, 0, 25, 172, 42]
abbrev dktX7_compareTo_0 : List UInt8 := dkwX7_compareTo_0 ++ dktX7_compareTo_1
theorem dksX7_compareTo_0 : cX7_compareTo.data.toList.drop 0 = dktX7_compareTo_0 := by decide +kernel
theorem dksX7_compareTo_1 : cX7_compareTo.data.toList.drop 24 = dktX7_compareTo_1 := dk_seg dksX7_compareTo_0 24 rfl rfl
theorem dksX7_compareTo_2 : cX7_compareTo.data.toList.drop 47 = dktX7_compareTo_2 := dk_seg dksX7_compareTo_1 23 rfl rfl
theorem dksX7_compareTo_3 : cX7_compareTo.data.toList.drop 71 = dktX7_compareTo_3 := dk_seg dksX7_compareTo_2 24 rfl rfl
theorem dX7_compareTo_0 : decode cX7_compareTo 0 = .ok (.aload_n 0, 1) := dk_42 (dk_at dksX7_compareTo_0 0 rfl rfl)
theorem dX7_compareTo_1 : decode cX7_compareTo 1 = .ok (.getfield 16, 3) := dk_180 0 16 (dk_at dksX7_compareTo_0 1 rfl rfl)
theorem dX7_compareTo_4 : decode cX7_compareTo 4 = .ok (.aload_n 1, 1) := dk_43 (dk_at dksX7_compareTo_0 4 rfl rfl)
theorem dX7_compareTo_5 : decode cX7_compareTo 5 = .ok (.getfield 16, 3) := dk_180 0 16 (dk_at dksX7_compareTo_0 5 rfl rfl)
theorem dX7_compareTo_8 : decode cX7_compareTo 8 = .ok (.if_icmp .eq 15, 3) := dk_159 0 15 (dk_at dksX7_compareTo_0 8 rfl rfl)
theorem dX7_compareTo_11 : decode cX7_compareTo 11 = .ok (.aload_n 1, 1) := dk_43 (dk_at dksX7_compareTo_0 11 rfl rfl)
theorem dX7_compareTo_12 : decode cX7_compareTo 12 = .ok (.getfield 16, 3) := dk_180 0 16 (dk_at dksX7_compareTo_0 12 rfl rfl)
theorem dX7_compareTo_15 : decode cX7_compareTo 15 = .ok (.aload_n 0, 1) := dk_42 (dk_at dksX7_compareTo_0 15 rfl rfl)
theorem dX7_compareTo_16 : decode cX7_compareTo 16 = .ok (.getfield 16, 3) := dk_180 0 16 (dk_at dksX7_compareTo_0 16 rfl rfl)
theorem dX7_compareTo_19 : decode cX7_compareTo 19 = .ok (.invokestatic 25, 3) := dk_184 0 25 (dk_at dksX7_compareTo_0 19 rfl rfl)
theorem dX7_compareTo_22 : decode cX7_compareTo 22 = .ok (.ireturn, 1) := dk_172 (dk_at dksX7_compareTo_0 22 rfl rfl)
theorem dX7_compareTo_23 : decode cX7_compareTo 23 = .ok (.aload_n 0, 1) := dk_42 (dk_at dksX7_compareTo_0 23 rfl rfl)
theorem dX7_compareTo_24 : decode cX7_compareTo 24 = .ok (.invokevirtual 31, 3) := dk_182 0 31 (dk_at dksX7_compareTo_1 0 rfl rfl)
theorem dX7_compareTo_27 : decode cX7_compareTo 27 = .ok (.aload_n 1, 1) := dk_43 (dk_at dksX7_compareTo_1 3 rfl rfl)
theorem dX7_compareTo_28 : decode cX7_compareTo 28 = .ok (.invokevirtual 31, 3) := dk_182 0 31 (dk_at dksX7_compareTo_1 4 rfl rfl)
theorem dX7_compareTo_31 : decode cX7_compareTo 31 = .ok (.if_icmp .eq 15, 3) := dk_159 0 15 (dk_at dksX7_compareTo_1 7 rfl rfl)
theorem dX7_compareTo_34 : decode cX7_compareTo 34 = .ok (.aload_n 0, 1) := dk_42 (dk_at dksX7_compareTo_1 10 rfl rfl)
theorem dX7_compareTo_35 : decode cX7_compareTo 35 = .ok (.invokevirtual 31, 3) := dk_182 0 31 (dk_at dksX7_compareTo_1 11 rfl rfl)
theorem dX7_compareTo_38 : decode cX7_compareTo 38 = .ok (.aload_n 1, 1) := dk_43 (dk_at dksX7_compareTo_1 14 rfl rfl)
theorem dX7_compareTo_39 : decode cX7_compareTo 39 = .ok (.invokevirtual 31, 3) := dk_182 0 31 (dk_at dksX7_compareTo_1 15 rfl rfl)
theorem dX7_compareTo_42 : decode cX7_compareTo 42 = .ok (.invokestatic 25, 3) := dk_184 0 25 (dk_at dksX7_compareTo_1 18 rfl rfl)
theorem dX7_compareTo_45 : decode cX7_compareTo 45 = .ok (.ireturn, 1) := dk_172 (dk_at dksX7_compareTo_1 21 rfl rfl)
theorem dX7_compareTo_46 : decode cX7_compareTo 46 = .ok (.aload_n 0, 1) := dk_42 (dk_at dksX7_compareTo_1 22 rfl rfl)
theorem dX7_compareTo_47 : decode cX7_compareTo 47 = .ok (.getfield 13, 3) := dk_180 0 13 (dk_at dksX7_compareTo_2 0 rfl rfl)
theorem dX7_compareTo_50 : decode cX7_compareTo 50 = .ok (.aload_n 1, 1) := dk_43 (dk_at dksX7_compareTo_2 3 rfl rfl)
theorem dX7_compareTo_51 : decode cX7_compareTo 51 = .ok (.getfield 13, 3) := dk_180 0 13 (dk_at dksX7_compareTo_2 4 rfl rfl)
theorem dX7_compareTo_54 : decode cX7_compareTo 54 = .ok (.if_icmp .eq 17, 3) := dk_159 0 17 (dk_at dksX7_compareTo_2 7 rfl rfl)
theorem dX7_compareTo_57 : decode cX7_compareTo 57 = .ok (.aload_n 0, 1) := dk_42 (dk_at dksX7_compareTo_2 10 rfl rfl)
theorem dX7_compareTo_58 : decode cX7_compareTo 58 = .ok (.getfield 13, 3) := dk_180 0 13 (dk_at dksX7_compareTo_2 11 rfl rfl)
theorem dX7_compareTo_61 : decode cX7_compareTo 61 = .ok (.aload_n 1, 1) := dk_43 (dk_at dksX7_compareTo_2 14 rfl rfl)
theorem dX7_compareTo_62 : decode cX7_compareTo 62 = .ok (.getfield 13, 3) := dk_180 0 13 (dk_at dksX7_compareTo_2 15 rfl rfl)
theorem dX7_compareTo_65 : decode cX7_compareTo 65 = .ok (.invokestatic 25, 3) := dk_184 0 25 (dk_at dksX7_compareTo_2 18 rfl rfl)
theorem dX7_compareTo_68 : decode cX7_compareTo 68 = .ok (.goto 14, 3) := dk_167 0 14 (dk_at dksX7_compareTo_2 21 rfl rfl)
theorem dX7_compareTo_71 : decode cX7_compareTo 71 = .ok (.aload_n 0, 1) := dk_42 (dk_at dksX7_compareTo_3 0 rfl rfl)
theorem dX7_compareTo_72 : decode cX7_compareTo 72 = .ok (.getfield 7, 3) := dk_180 0 7 (dk_at dksX7_compareTo_3 1 rfl rfl)
theorem dX7_compareTo_75 : decode cX7_compareTo 75 = .ok (.aload_n 1, 1) := dk_43 (dk_at dksX7_compareTo_3 4 rfl rfl)
theorem dX7_compareTo_76 : decode cX7_compareTo 76 = .ok (.getfield 7, 3) := dk_180 0 7 (dk_at dksX7_compareTo_3 5 rfl rfl)
theorem dX7_compareTo_79 : decode cX7_compareTo 79 = .ok (.invokestatic 25, 3) := dk_184 0 25 (dk_at dksX7_compareTo_3 8 rfl rfl)
theorem dX7_compareTo_82 : decode cX7_compareTo 82 = .ok (.ireturn, 1) := dk_172 (dk_at dksX7_compareTo_3 11 rfl rfl)
abbrev cX7_way : ByteArray := prog_13_method_2_code
def yX7_way : MethodName := ⟨RX7, "way", "()I"⟩
def dkwX7_way_0 : List UInt8 := [42, 180, 0, 7, 184, 0, 19, 42, 180, 0, 13, 184, 0, 19, 96, 172]
abbrev dktX7_way_0 : List UInt8 := dkwX7_way_0 ++ []
theorem dksX7_way_0 : cX7_way.data.toList.drop 0 = dktX7_way_0 := by decide +kernel
theorem dX7_way_0 : decode cX7_way 0 = .ok (.aload_n 0, 1) := dk_42 (dk_at dksX7_way_0 0 rfl rfl)
theorem dX7_way_1 : decode cX7_way 1 = .ok (.getfield 7, 3) := dk_180 0 7 (dk_at dksX7_way_0 1 rfl rfl)
theorem dX7_way_4 : decode cX7_way 4 = .ok (.invokestatic 19, 3) := dk_184 0 19 (dk_at dksX7_way_0 4 rfl rfl)
theorem dX7_way_7 : decode cX7_way 7 = .ok (.aload_n 0, 1) := dk_42 (dk_at dksX7_way_0 7 rfl rfl)
theorem dX7_way_8 : decode cX7_way 8 = .ok (.getfield 13, 3) := dk_180 0 13 (dk_at dksX7_way_0 8 rfl rfl)
theorem dX7_way_11 : decode cX7_way 11 = .ok (.invokestatic 19, 3) := dk_184 0 19 (dk_at dksX7_way_0 11 rfl rfl)
theorem dX7_way_14 : decode cX7_way 14 = .ok (.iadd, 1) := dk_96 (dk_at dksX7_way_0 14 rfl rfl)
theorem dX7_way_15 : decode cX7_way 15 = .ok (.ireturn, 1) := dk_172 (dk_at dksX7_way_0 15 rfl rfl)
abbrev cX7_compareTo_2 : ByteArray := prog_13_method_4_code
def yX7_compareTo_2 : MethodName := ⟨RX7, "compareTo", "(Ljava/lang/Object;)I"⟩
def dkwX7_compareTo_2_0 : List UInt8 := [42, 43, 192, 0, 8, 182, 0, 35, 172]
abbrev dktX7_compareTo_2_0 : List UInt8 := dkwX7_compareTo_2_0 ++ []
theorem dksX7_compareTo_2_0 : cX7_compareTo_2.data.toList.drop 0 = dktX7_compareTo_2_0 := by decide +kernel
theorem dX7_compareTo_2_0 : decode cX7_compareTo_2 0 = .ok (.aload_n 0, 1) := dk_42 (dk_at dksX7_compareTo_2_0 0 rfl rfl)
theorem dX7_compareTo_2_1 : decode cX7_compareTo_2 1 = .ok (.aload_n 1, 1) := dk_43 (dk_at dksX7_compareTo_2_0 1 rfl rfl)
theorem dX7_compareTo_2_2 : decode cX7_compareTo_2 2 = .ok (.checkcast 8, 3) := dk_192 0 8 (dk_at dksX7_compareTo_2_0 2 rfl rfl)
theorem dX7_compareTo_2_5 : decode cX7_compareTo_2 5 = .ok (.invokevirtual 35, 3) := dk_182 0 35 (dk_at dksX7_compareTo_2_0 5 rfl rfl)
theorem dX7_compareTo_2_8 : decode cX7_compareTo_2 8 = .ok (.ireturn, 1) := dk_172 (dk_at dksX7_compareTo_2_0 8 rfl rfl)
theorem q103 : (Jvm.Cond.initialized "FigureSurvey$Shift") ∈ lw_all := lw_g (lw_at lw_m1 30 rfl) rfl
theorem q445 : (Jvm.Cond.selects "FigureSurvey$Shift" ({ cls := "java/lang/Object", name := "getClass", desc := "()Ljava/lang/Class;" } : Jvm.MethodName) ({ cls := "java/lang/Object", name := "getClass", desc := "()Ljava/lang/Class;" } : Jvm.MethodName)) ∈ lw_all := lw_g (lw_at lw_m2 132 rfl) rfl
theorem q548 : (Jvm.Cond.instantiable "FigureSurvey$Shift" (3 : Nat)) ∈ lw_all := lw_g (lw_at lw_m2 235 rfl) rfl
theorem q564 : (Jvm.Cond.instanceMethod ({ cls := "FigureSurvey$Shift", name := "<init>", desc := "(III)V" } : Jvm.MethodName)) ∈ lw_all := lw_g (lw_at lw_m3 11 rfl) rfl
theorem q565 : (Jvm.Cond.code ({ cls := "FigureSurvey$Shift", name := "<init>", desc := "(III)V" } : Jvm.MethodName) prog_13_method_1_code (4 : Nat) (Option.none : Option Jvm.ClassFile.FieldType)) ∈ lw_all := lw_g (lw_at lw_m3 12 rfl) rfl
theorem q566 : (Jvm.Cond.methodLink "FigureSurvey$Shift" (1 : Nat) ({ cls := "java/lang/Object", name := "<init>", desc := "()V" } : Jvm.MethodName)) ∈ lw_all := lw_g (lw_at lw_m3 13 rfl) rfl
theorem q567 : (Jvm.Cond.fieldLink "FigureSurvey$Shift" (7 : Nat) "FigureSurvey$Shift" "dx" "I") ∈ lw_all := lw_g (lw_at lw_m3 14 rfl) rfl
theorem q570 : (Jvm.Cond.fieldLink "FigureSurvey$Shift" (13 : Nat) "FigureSurvey$Shift" "dy" "I") ∈ lw_all := lw_g (lw_at lw_m3 17 rfl) rfl
theorem q573 : (Jvm.Cond.fieldLink "FigureSurvey$Shift" (16 : Nat) "FigureSurvey$Shift" "common" "I") ∈ lw_all := lw_g (lw_at lw_m3 20 rfl) rfl
theorem q575 : (Jvm.Cond.laysFinal "FigureSurvey$Shift" "FigureSurvey$Shift" "dx" "I") ∈ lw_all := lw_g (lw_at lw_m3 22 rfl) rfl
theorem q576 : (Jvm.Cond.soleField "FigureSurvey$Shift" "dx") ∈ lw_all := lw_g (lw_at lw_m3 23 rfl) rfl
theorem q577 : (Jvm.Cond.laysFinal "FigureSurvey$Shift" "FigureSurvey$Shift" "dy" "I") ∈ lw_all := lw_g (lw_at lw_m3 24 rfl) rfl
theorem q578 : (Jvm.Cond.soleField "FigureSurvey$Shift" "dy") ∈ lw_all := lw_g (lw_at lw_m3 25 rfl) rfl
theorem q579 : (Jvm.Cond.laysFinal "FigureSurvey$Shift" "FigureSurvey$Shift" "common" "I") ∈ lw_all := lw_g (lw_at lw_m3 26 rfl) rfl
theorem q580 : (Jvm.Cond.soleField "FigureSurvey$Shift" "common") ∈ lw_all := lw_g (lw_at lw_m3 27 rfl) rfl
theorem q581 : (Jvm.Cond.superclass "FigureSurvey$Shift" "java/lang/Object") ∈ lw_all := lw_g (lw_at lw_m3 28 rfl) rfl
theorem q583 : (Jvm.Cond.instanceMethod ({ cls := "FigureSurvey$Shift", name := "compareTo", desc := "(LFigureSurvey$Shift;)I" } : Jvm.MethodName)) ∈ lw_all := lw_g (lw_at lw_m3 30 rfl) rfl
theorem q584 : (Jvm.Cond.selects "FigureSurvey$Shift" ({ cls := "FigureSurvey$Shift", name := "compareTo", desc := "(LFigureSurvey$Shift;)I" } : Jvm.MethodName) ({ cls := "FigureSurvey$Shift", name := "compareTo", desc := "(LFigureSurvey$Shift;)I" } : Jvm.MethodName)) ∈ lw_all := lw_g (lw_at lw_m3 31 rfl) rfl
theorem q585 : (Jvm.Cond.code ({ cls := "FigureSurvey$Shift", name := "compareTo", desc := "(LFigureSurvey$Shift;)I" } : Jvm.MethodName) prog_13_method_3_code (2 : Nat) (Option.some Jvm.ClassFile.FieldType.int)) ∈ lw_all := lw_g (lw_at lw_m3 32 rfl) rfl
theorem q586 : (Jvm.Cond.methodLink "FigureSurvey$Shift" (25 : Nat) ({ cls := "java/lang/Integer", name := "compare", desc := "(II)I" } : Jvm.MethodName)) ∈ lw_all := lw_g (lw_at lw_m3 33 rfl) rfl
theorem q587 : (Jvm.Cond.methodLink "FigureSurvey$Shift" (31 : Nat) ({ cls := "FigureSurvey$Shift", name := "way", desc := "()I" } : Jvm.MethodName)) ∈ lw_all := lw_g (lw_at lw_m3 34 rfl) rfl
theorem q588 : (Jvm.Cond.privateMethod ({ cls := "FigureSurvey$Shift", name := "way", desc := "()I" } : Jvm.MethodName)) ∈ lw_tbl := lw_at lw_m3 35 rfl
theorem q589 : (Jvm.Cond.instanceMethod ({ cls := "FigureSurvey$Shift", name := "way", desc := "()I" } : Jvm.MethodName)) ∈ lw_all := lw_g (lw_at lw_m3 36 rfl) rfl
theorem q590 : (Jvm.Cond.code ({ cls := "FigureSurvey$Shift", name := "way", desc := "()I" } : Jvm.MethodName) prog_13_method_2_code (1 : Nat) (Option.some Jvm.ClassFile.FieldType.int)) ∈ lw_all := lw_g (lw_at lw_m3 37 rfl) rfl
theorem q591 : (Jvm.Cond.methodLink "FigureSurvey$Shift" (19 : Nat) ({ cls := "java/lang/Math", name := "abs", desc := "(I)I" } : Jvm.MethodName)) ∈ lw_all := lw_g (lw_at lw_m3 38 rfl) rfl
theorem q622 : (Jvm.Cond.castable "FigureSurvey$Shift" "java/lang/Comparable") ∈ lw_tbl := lw_at lw_m3 69 rfl
theorem q623 : (Jvm.Cond.selects "FigureSurvey$Shift" ({ cls := "java/lang/Comparable", name := "compareTo", desc := "(Ljava/lang/Object;)I" } : Jvm.MethodName) ({ cls := "FigureSurvey$Shift", name := "compareTo", desc := "(Ljava/lang/Object;)I" } : Jvm.MethodName)) ∈ lw_all := lw_g (lw_at lw_m3 70 rfl) rfl
theorem q624 : (Jvm.Cond.unhidden "FigureSurvey$Shift" "compareTo" "(Ljava/lang/Object;)I") ∈ lw_tbl := lw_at lw_m3 71 rfl
theorem q625 : (Jvm.Cond.instanceMethod ({ cls := "FigureSurvey$Shift", name := "compareTo", desc := "(Ljava/lang/Object;)I" } : Jvm.MethodName)) ∈ lw_all := lw_g (lw_at lw_m3 72 rfl) rfl
theorem q626 : (Jvm.Cond.publicMethod ({ cls := "FigureSurvey$Shift", name := "compareTo", desc := "(Ljava/lang/Object;)I" } : Jvm.MethodName)) ∈ lw_tbl := lw_at lw_m3 73 rfl
theorem q627 : (Jvm.Cond.code ({ cls := "FigureSurvey$Shift", name := "compareTo", desc := "(Ljava/lang/Object;)I" } : Jvm.MethodName) prog_13_method_4_code (2 : Nat) (Option.some Jvm.ClassFile.FieldType.int)) ∈ lw_all := lw_g (lw_at lw_m3 74 rfl) rfl
theorem q628 : (Jvm.Cond.classLink "FigureSurvey$Shift" (8 : Nat) "FigureSurvey$Shift") ∈ lw_all := lw_g (lw_at lw_m3 75 rfl) rfl
theorem q629 : (Jvm.Cond.methodLink "FigureSurvey$Shift" (35 : Nat) ({ cls := "FigureSurvey$Shift", name := "compareTo", desc := "(LFigureSurvey$Shift;)I" } : Jvm.MethodName)) ∈ lw_all := lw_g (lw_at lw_m3 76 rfl) rfl
theorem q1215 : (Jvm.Cond.selects "FigureSurvey$Shift" ({ cls := "java/lang/Object", name := "equals", desc := "(Ljava/lang/Object;)Z" } : Jvm.MethodName) ({ cls := "java/lang/Object", name := "equals", desc := "(Ljava/lang/Object;)Z" } : Jvm.MethodName)) ∈ lw_all := lw_g (lw_at lw_m5 182 rfl) rfl
theorem q2938 : (Jvm.Cond.castable "FigureSurvey$Shift" "java/lang/Object") ∈ lw_tbl := lw_at lw_m12 225 rfl
theorem in_X7 : ∀ w ∈ wsX70, w ∈ lw_all := lw_in wsX70 [575, 577, 579] (by decide +kernel) (by decide +kernel)
/-! FigureSurvey$Finding -/
set_option maxRecDepth 100000
def RX8 : String := "FigureSurvey$Finding"
def TX8 : u_T := fun k => match k with
  | 0 => ("FigureSurvey$Finding", "number", "I", true)
  | 1 => ("FigureSurvey$Finding", "kind", "I", true)
  | 2 => ("FigureSurvey$Finding", "figure", "LFigureSurvey$Figure;", true)
  | 3 => ("FigureSurvey$Finding", "other", "LFigureSurvey$Figure;", true)
  | 4 => ("FigureSurvey$Finding", "what", "I", true)
  | 5 => ("FigureSurvey$Finding", "weight", "I", true)
  | _ => ("FigureSurvey$Finding", "this$0", "LFigureSurvey;", true)
def tyX8 : Nat → FieldType := fun k => match k with
  | 0 => .int
  | 1 => .int
  | 2 => .object "FigureSurvey$Figure"
  | 3 => .object "FigureSurvey$Figure"
  | 4 => .int
  | 5 => .int
  | _ => .object "FigureSurvey"
abbrev wsX80 : List Cond := u_ws RX8 TX8 7
theorem nmX8 : ∀ a, a < 7 → ∀ b, b < 7 → a ≠ b → (TX8 a).2.1 ≠ (TX8 b).2.1 := by decide +kernel
theorem tyX8_ok : ∀ k, k < 7 → parseFieldDescriptor (TX8 k).2.2.1 = some (tyX8 k) := by decide +kernel
abbrev cX8_isOf : ByteArray := prog_7_method_2_code
def yX8_isOf : MethodName := ⟨RX8, "isOf", "(LFigureSurvey$Panel;)Z"⟩
def dkwX8_isOf_0 : List UInt8 := [42, 180, 0, 25, 180, 0, 38, 43, 166, 0, 7, 4, 167, 0, 4, 3, 172]
abbrev dktX8_isOf_0 : List UInt8 := dkwX8_isOf_0 ++ []
theorem dksX8_isOf_0 : cX8_isOf.data.toList.drop 0 = dktX8_isOf_0 := by decide +kernel
theorem dX8_isOf_0 : decode cX8_isOf 0 = .ok (.aload_n 0, 1) := dk_42 (dk_at dksX8_isOf_0 0 rfl rfl)
theorem dX8_isOf_1 : decode cX8_isOf 1 = .ok (.getfield 25, 3) := dk_180 0 25 (dk_at dksX8_isOf_0 1 rfl rfl)
theorem dX8_isOf_4 : decode cX8_isOf 4 = .ok (.getfield 38, 3) := dk_180 0 38 (dk_at dksX8_isOf_0 4 rfl rfl)
theorem dX8_isOf_7 : decode cX8_isOf 7 = .ok (.aload_n 1, 1) := dk_43 (dk_at dksX8_isOf_0 7 rfl rfl)
theorem dX8_isOf_8 : decode cX8_isOf 8 = .ok (.if_acmp .ne 7, 3) := dk_166 0 7 (dk_at dksX8_isOf_0 8 rfl rfl)
theorem dX8_isOf_11 : decode cX8_isOf 11 = .ok (.iconst 1, 1) := dk_4 (dk_at dksX8_isOf_0 11 rfl rfl)
theorem dX8_isOf_12 : decode cX8_isOf 12 = .ok (.goto 4, 3) := dk_167 0 4 (dk_at dksX8_isOf_0 12 rfl rfl)
theorem dX8_isOf_15 : decode cX8_isOf 15 = .ok (.iconst 0, 1) := dk_3 (dk_at dksX8_isOf_0 15 rfl rfl)
theorem dX8_isOf_16 : decode cX8_isOf 16 = .ok (.ireturn, 1) := dk_172 (dk_at dksX8_isOf_0 16 rfl rfl)
abbrev cX8_year : ByteArray := prog_7_method_3_code
def yX8_year : MethodName := ⟨RX8, "year", "()I"⟩
def dkwX8_year_3 : List UInt8 := [180, 0, 32, 16, 20, 100, 104, 96, 100, 172]
abbrev dktX8_year_3 : List UInt8 := dkwX8_year_3 ++ []
def dkwX8_year_2 : List UInt8 := [180, 0, 32, 16, 20, 163, 0, 13, 16, 10, 42, 180, 0, 32, 104, 167, 0, 17, 17, 0, 200, 16, 25, 42]
abbrev dktX8_year_2 : List UInt8 := dkwX8_year_2 ++ dktX8_year_3
def dkwX8_year_1 : List UInt8 := [180, 0, 22, 5, 160, 0, 16, 42, 180, 0, 3, 180, 0, 48, 42, 180, 0, 32, 46, 172, 17, 117, 48, 42]
abbrev dktX8_year_1 : List UInt8 := dkwX8_year_1 ++ dktX8_year_2
def dkwX8_year_0 : List UInt8 := [42, 180, 0, 22, 4, 160, 0, 16, 42, 180, 0, 3, 180, 0, 44, 42, 180, 0, 32, 46, 172, 42]
abbrev dktX8_year_0 : List UInt8 := dkwX8_year_0 ++ dktX8_year_1
theorem dksX8_year_0 : cX8_year.data.toList.drop 0 = dktX8_year_0 := by decide +kernel
theorem dksX8_year_1 : cX8_year.data.toList.drop 22 = dktX8_year_1 := dk_seg dksX8_year_0 22 rfl rfl
theorem dksX8_year_2 : cX8_year.data.toList.drop 46 = dktX8_year_2 := dk_seg dksX8_year_1 24 rfl rfl
theorem dksX8_year_3 : cX8_year.data.toList.drop 70 = dktX8_year_3 := dk_seg dksX8_year_2 24 rfl rfl
theorem dX8_year_0 : decode cX8_year 0 = .ok (.aload_n 0, 1) := dk_42 (dk_at dksX8_year_0 0 rfl rfl)
theorem dX8_year_1 : decode cX8_year 1 = .ok (.getfield 22, 3) := dk_180 0 22 (dk_at dksX8_year_0 1 rfl rfl)
theorem dX8_year_4 : decode cX8_year 4 = .ok (.iconst 1, 1) := dk_4 (dk_at dksX8_year_0 4 rfl rfl)
theorem dX8_year_5 : decode cX8_year 5 = .ok (.if_icmp .ne 16, 3) := dk_160 0 16 (dk_at dksX8_year_0 5 rfl rfl)
theorem dX8_year_8 : decode cX8_year 8 = .ok (.aload_n 0, 1) := dk_42 (dk_at dksX8_year_0 8 rfl rfl)
theorem dX8_year_9 : decode cX8_year 9 = .ok (.getfield 3, 3) := dk_180 0 3 (dk_at dksX8_year_0 9 rfl rfl)
theorem dX8_year_12 : decode cX8_year 12 = .ok (.getfield 44, 3) := dk_180 0 44 (dk_at dksX8_year_0 12 rfl rfl)
theorem dX8_year_15 : decode cX8_year 15 = .ok (.aload_n 0, 1) := dk_42 (dk_at dksX8_year_0 15 rfl rfl)
theorem dX8_year_16 : decode cX8_year 16 = .ok (.getfield 32, 3) := dk_180 0 32 (dk_at dksX8_year_0 16 rfl rfl)
theorem dX8_year_19 : decode cX8_year 19 = .ok (.iaload, 1) := dk_46 (dk_at dksX8_year_0 19 rfl rfl)
theorem dX8_year_20 : decode cX8_year 20 = .ok (.ireturn, 1) := dk_172 (dk_at dksX8_year_0 20 rfl rfl)
theorem dX8_year_21 : decode cX8_year 21 = .ok (.aload_n 0, 1) := dk_42 (dk_at dksX8_year_0 21 rfl rfl)
theorem dX8_year_22 : decode cX8_year 22 = .ok (.getfield 22, 3) := dk_180 0 22 (dk_at dksX8_year_1 0 rfl rfl)
theorem dX8_year_25 : decode cX8_year 25 = .ok (.iconst 2, 1) := dk_5 (dk_at dksX8_year_1 3 rfl rfl)
theorem dX8_year_26 : decode cX8_year 26 = .ok (.if_icmp .ne 16, 3) := dk_160 0 16 (dk_at dksX8_year_1 4 rfl rfl)
theorem dX8_year_29 : decode cX8_year 29 = .ok (.aload_n 0, 1) := dk_42 (dk_at dksX8_year_1 7 rfl rfl)
theorem dX8_year_30 : decode cX8_year 30 = .ok (.getfield 3, 3) := dk_180 0 3 (dk_at dksX8_year_1 8 rfl rfl)
theorem dX8_year_33 : decode cX8_year 33 = .ok (.getfield 48, 3) := dk_180 0 48 (dk_at dksX8_year_1 11 rfl rfl)
theorem dX8_year_36 : decode cX8_year 36 = .ok (.aload_n 0, 1) := dk_42 (dk_at dksX8_year_1 14 rfl rfl)
theorem dX8_year_37 : decode cX8_year 37 = .ok (.getfield 32, 3) := dk_180 0 32 (dk_at dksX8_year_1 15 rfl rfl)
theorem dX8_year_40 : decode cX8_year 40 = .ok (.iaload, 1) := dk_46 (dk_at dksX8_year_1 18 rfl rfl)
theorem dX8_year_41 : decode cX8_year 41 = .ok (.ireturn, 1) := dk_172 (dk_at dksX8_year_1 19 rfl rfl)
theorem dX8_year_42 : decode cX8_year 42 = .ok (.sipush 30000, 3) := dk_17 117 48 (dk_at dksX8_year_1 20 rfl rfl)
theorem dX8_year_45 : decode cX8_year 45 = .ok (.aload_n 0, 1) := dk_42 (dk_at dksX8_year_1 23 rfl rfl)
theorem dX8_year_46 : decode cX8_year 46 = .ok (.getfield 32, 3) := dk_180 0 32 (dk_at dksX8_year_2 0 rfl rfl)
theorem dX8_year_49 : decode cX8_year 49 = .ok (.bipush 20, 2) := dk_16 20 (dk_at dksX8_year_2 3 rfl rfl)
theorem dX8_year_51 : decode cX8_year 51 = .ok (.if_icmp .gt 13, 3) := dk_163 0 13 (dk_at dksX8_year_2 5 rfl rfl)
theorem dX8_year_54 : decode cX8_year 54 = .ok (.bipush 10, 2) := dk_16 10 (dk_at dksX8_year_2 8 rfl rfl)
theorem dX8_year_56 : decode cX8_year 56 = .ok (.aload_n 0, 1) := dk_42 (dk_at dksX8_year_2 10 rfl rfl)
theorem dX8_year_57 : decode cX8_year 57 = .ok (.getfield 32, 3) := dk_180 0 32 (dk_at dksX8_year_2 11 rfl rfl)
theorem dX8_year_60 : decode cX8_year 60 = .ok (.imul, 1) := dk_104 (dk_at dksX8_year_2 14 rfl rfl)
theorem dX8_year_61 : decode cX8_year 61 = .ok (.goto 17, 3) := dk_167 0 17 (dk_at dksX8_year_2 15 rfl rfl)
theorem dX8_year_64 : decode cX8_year 64 = .ok (.sipush 200, 3) := dk_17 0 200 (dk_at dksX8_year_2 18 rfl rfl)
theorem dX8_year_67 : decode cX8_year 67 = .ok (.bipush 25, 2) := dk_16 25 (dk_at dksX8_year_2 21 rfl rfl)
theorem dX8_year_69 : decode cX8_year 69 = .ok (.aload_n 0, 1) := dk_42 (dk_at dksX8_year_2 23 rfl rfl)
theorem dX8_year_70 : decode cX8_year 70 = .ok (.getfield 32, 3) := dk_180 0 32 (dk_at dksX8_year_3 0 rfl rfl)
theorem dX8_year_73 : decode cX8_year 73 = .ok (.bipush 20, 2) := dk_16 20 (dk_at dksX8_year_3 3 rfl rfl)
theorem dX8_year_75 : decode cX8_year 75 = .ok (.isub, 1) := dk_100 (dk_at dksX8_year_3 5 rfl rfl)
theorem dX8_year_76 : decode cX8_year 76 = .ok (.imul, 1) := dk_104 (dk_at dksX8_year_3 6 rfl rfl)
theorem dX8_year_77 : decode cX8_year 77 = .ok (.iadd, 1) := dk_96 (dk_at dksX8_year_3 7 rfl rfl)
theorem dX8_year_78 : decode cX8_year 78 = .ok (.isub, 1) := dk_100 (dk_at dksX8_year_3 8 rfl rfl)
theorem dX8_year_79 : decode cX8_year 79 = .ok (.ireturn, 1) := dk_172 (dk_at dksX8_year_3 9 rfl rfl)
abbrev cX8_init : ByteArray := prog_7_method_1_code
def yX8_init : MethodName := ⟨RX8, "<init>", "(LFigureSurvey;ILFigureSurvey$Figure;LFigureSurvey$Figure;II)V"⟩
def dkwX8_init_2 : List UInt8 := [181, 0, 35, 177]
abbrev dktX8_init_2 : List UInt8 := dkwX8_init_2 ++ []
def dkwX8_init_1 : List UInt8 := [181, 0, 22, 42, 45, 181, 0, 25, 42, 25, 4, 181, 0, 29, 42, 21, 5, 181, 0, 32, 42, 21, 6]
abbrev dktX8_init_1 : List UInt8 := dkwX8_init_1 ++ dktX8_init_2
def dkwX8_init_0 : List UInt8 := [42, 43, 181, 0, 3, 42, 183, 0, 9, 42, 42, 180, 0, 3, 180, 0, 15, 181, 0, 19, 42, 28]
abbrev dktX8_init_0 : List UInt8 := dkwX8_init_0 ++ dktX8_init_1
theorem dksX8_init_0 : cX8_init.data.toList.drop 0 = dktX8_init_0 := by decide +kernel
theorem dksX8_init_1 : cX8_init.data.toList.drop 22 = dktX8_init_1 := dk_seg dksX8_init_0 22 rfl rfl
theorem dksX8_init_2 : cX8_init.data.toList.drop 45 = dktX8_init_2 := dk_seg dksX8_init_1 23 rfl rfl
theorem dX8_init_0 : decode cX8_init 0 = .ok (.aload_n 0, 1) := dk_42 (dk_at dksX8_init_0 0 rfl rfl)
theorem dX8_init_1 : decode cX8_init 1 = .ok (.aload_n 1, 1) := dk_43 (dk_at dksX8_init_0 1 rfl rfl)
theorem dX8_init_2 : decode cX8_init 2 = .ok (.putfield 3, 3) := dk_181 0 3 (dk_at dksX8_init_0 2 rfl rfl)
theorem dX8_init_5 : decode cX8_init 5 = .ok (.aload_n 0, 1) := dk_42 (dk_at dksX8_init_0 5 rfl rfl)
theorem dX8_init_6 : decode cX8_init 6 = .ok (.invokespecial 9, 3) := dk_183 0 9 (dk_at dksX8_init_0 6 rfl rfl)
theorem dX8_init_9 : decode cX8_init 9 = .ok (.aload_n 0, 1) := dk_42 (dk_at dksX8_init_0 9 rfl rfl)
theorem dX8_init_10 : decode cX8_init 10 = .ok (.aload_n 0, 1) := dk_42 (dk_at dksX8_init_0 10 rfl rfl)
theorem dX8_init_11 : decode cX8_init 11 = .ok (.getfield 3, 3) := dk_180 0 3 (dk_at dksX8_init_0 11 rfl rfl)
theorem dX8_init_14 : decode cX8_init 14 = .ok (.getfield 15, 3) := dk_180 0 15 (dk_at dksX8_init_0 14 rfl rfl)
theorem dX8_init_17 : decode cX8_init 17 = .ok (.putfield 19, 3) := dk_181 0 19 (dk_at dksX8_init_0 17 rfl rfl)
theorem dX8_init_20 : decode cX8_init 20 = .ok (.aload_n 0, 1) := dk_42 (dk_at dksX8_init_0 20 rfl rfl)
theorem dX8_init_21 : decode cX8_init 21 = .ok (.iload_n 2, 1) := dk_28 (dk_at dksX8_init_0 21 rfl rfl)
theorem dX8_init_22 : decode cX8_init 22 = .ok (.putfield 22, 3) := dk_181 0 22 (dk_at dksX8_init_1 0 rfl rfl)
theorem dX8_init_25 : decode cX8_init 25 = .ok (.aload_n 0, 1) := dk_42 (dk_at dksX8_init_1 3 rfl rfl)
theorem dX8_init_26 : decode cX8_init 26 = .ok (.aload_n 3, 1) := dk_45 (dk_at dksX8_init_1 4 rfl rfl)
theorem dX8_init_27 : decode cX8_init 27 = .ok (.putfield 25, 3) := dk_181 0 25 (dk_at dksX8_init_1 5 rfl rfl)
theorem dX8_init_30 : decode cX8_init 30 = .ok (.aload_n 0, 1) := dk_42 (dk_at dksX8_init_1 8 rfl rfl)
theorem dX8_init_31 : decode cX8_init 31 = .ok (.aload 4, 2) := dk_25 4 (dk_at dksX8_init_1 9 rfl rfl)
theorem dX8_init_33 : decode cX8_init 33 = .ok (.putfield 29, 3) := dk_181 0 29 (dk_at dksX8_init_1 11 rfl rfl)
theorem dX8_init_36 : decode cX8_init 36 = .ok (.aload_n 0, 1) := dk_42 (dk_at dksX8_init_1 14 rfl rfl)
theorem dX8_init_37 : decode cX8_init 37 = .ok (.iload 5, 2) := dk_21 5 (dk_at dksX8_init_1 15 rfl rfl)
theorem dX8_init_39 : decode cX8_init 39 = .ok (.putfield 32, 3) := dk_181 0 32 (dk_at dksX8_init_1 17 rfl rfl)
theorem dX8_init_42 : decode cX8_init 42 = .ok (.aload_n 0, 1) := dk_42 (dk_at dksX8_init_1 20 rfl rfl)
theorem dX8_init_43 : decode cX8_init 43 = .ok (.iload 6, 2) := dk_21 6 (dk_at dksX8_init_1 21 rfl rfl)
theorem dX8_init_45 : decode cX8_init 45 = .ok (.putfield 35, 3) := dk_181 0 35 (dk_at dksX8_init_2 0 rfl rfl)
theorem dX8_init_48 : decode cX8_init 48 = .ok (.return_, 1) := dk_177 (dk_at dksX8_init_2 3 rfl rfl)
theorem q114 : (Jvm.Cond.initialized "FigureSurvey$Finding") ∈ lw_all := lw_g (lw_at lw_m1 41 rfl) rfl
theorem q217 : (Jvm.Cond.fieldLinkNest "FigureSurvey$Finding" (15 : Nat) "FigureSurvey" "told" "I" "FigureSurvey") ∈ lw_tbl := lw_at lw_m1 144 rfl
theorem q219 : (Jvm.Cond.fieldLinkNest "FigureSurvey$Finding" (44 : Nat) "FigureSurvey" "weaponYears" "[I" "FigureSurvey") ∈ lw_tbl := lw_at lw_m1 146 rfl
theorem q221 : (Jvm.Cond.fieldLinkNest "FigureSurvey$Finding" (48 : Nat) "FigureSurvey" "animalYears" "[I" "FigureSurvey") ∈ lw_tbl := lw_at lw_m1 148 rfl
theorem q441 : (Jvm.Cond.selects "FigureSurvey$Finding" ({ cls := "java/lang/Object", name := "getClass", desc := "()Ljava/lang/Class;" } : Jvm.MethodName) ({ cls := "java/lang/Object", name := "getClass", desc := "()Ljava/lang/Class;" } : Jvm.MethodName)) ∈ lw_all := lw_g (lw_at lw_m2 128 rfl) rfl
theorem q1185 : (Jvm.Cond.instanceMethod ({ cls := "FigureSurvey$Finding", name := "isOf", desc := "(LFigureSurvey$Panel;)Z" } : Jvm.MethodName)) ∈ lw_all := lw_g (lw_at lw_m5 152 rfl) rfl
theorem q1186 : (Jvm.Cond.selects "FigureSurvey$Finding" ({ cls := "FigureSurvey$Finding", name := "isOf", desc := "(LFigureSurvey$Panel;)Z" } : Jvm.MethodName) ({ cls := "FigureSurvey$Finding", name := "isOf", desc := "(LFigureSurvey$Panel;)Z" } : Jvm.MethodName)) ∈ lw_all := lw_g (lw_at lw_m5 153 rfl) rfl
theorem q1187 : (Jvm.Cond.code ({ cls := "FigureSurvey$Finding", name := "isOf", desc := "(LFigureSurvey$Panel;)Z" } : Jvm.MethodName) prog_7_method_2_code (2 : Nat) (Option.some Jvm.ClassFile.FieldType.boolean)) ∈ lw_all := lw_g (lw_at lw_m5 154 rfl) rfl
theorem q1209 : (Jvm.Cond.selects "FigureSurvey$Finding" ({ cls := "java/lang/Object", name := "equals", desc := "(Ljava/lang/Object;)Z" } : Jvm.MethodName) ({ cls := "java/lang/Object", name := "equals", desc := "(Ljava/lang/Object;)Z" } : Jvm.MethodName)) ∈ lw_all := lw_g (lw_at lw_m5 176 rfl) rfl
theorem q1275 : (Jvm.Cond.instanceMethod ({ cls := "FigureSurvey$Finding", name := "year", desc := "()I" } : Jvm.MethodName)) ∈ lw_all := lw_g (lw_at lw_m6 2 rfl) rfl
theorem q1276 : (Jvm.Cond.selects "FigureSurvey$Finding" ({ cls := "FigureSurvey$Finding", name := "year", desc := "()I" } : Jvm.MethodName) ({ cls := "FigureSurvey$Finding", name := "year", desc := "()I" } : Jvm.MethodName)) ∈ lw_all := lw_g (lw_at lw_m6 3 rfl) rfl
theorem q1277 : (Jvm.Cond.code ({ cls := "FigureSurvey$Finding", name := "year", desc := "()I" } : Jvm.MethodName) prog_7_method_3_code (1 : Nat) (Option.some Jvm.ClassFile.FieldType.int)) ∈ lw_all := lw_g (lw_at lw_m6 4 rfl) rfl
theorem q1816 : (Jvm.Cond.fieldLink "FigureSurvey$Finding" (38 : Nat) "FigureSurvey$Figure" "panel" "LFigureSurvey$Panel;") ∈ lw_all := lw_g (lw_at lw_m8 63 rfl) rfl
theorem q2019 : (Jvm.Cond.instantiable "FigureSurvey$Finding" (7 : Nat)) ∈ lw_all := lw_g (lw_at lw_m9 26 rfl) rfl
theorem q2021 : (Jvm.Cond.instanceMethod ({ cls := "FigureSurvey$Finding", name := "<init>", desc := "(LFigureSurvey;ILFigureSurvey$Figure;LFigureSurvey$Figure;II)V" } : Jvm.MethodName)) ∈ lw_all := lw_g (lw_at lw_m9 28 rfl) rfl
theorem q2022 : (Jvm.Cond.code ({ cls := "FigureSurvey$Finding", name := "<init>", desc := "(LFigureSurvey;ILFigureSurvey$Figure;LFigureSurvey$Figure;II)V" } : Jvm.MethodName) prog_7_method_1_code (7 : Nat) (Option.none : Option Jvm.ClassFile.FieldType)) ∈ lw_all := lw_g (lw_at lw_m9 29 rfl) rfl
theorem q2023 : (Jvm.Cond.methodLink "FigureSurvey$Finding" (9 : Nat) ({ cls := "java/lang/Object", name := "<init>", desc := "()V" } : Jvm.MethodName)) ∈ lw_all := lw_g (lw_at lw_m9 30 rfl) rfl
theorem q2024 : (Jvm.Cond.fieldLink "FigureSurvey$Finding" (19 : Nat) "FigureSurvey$Finding" "number" "I") ∈ lw_all := lw_g (lw_at lw_m9 31 rfl) rfl
theorem q2027 : (Jvm.Cond.fieldLink "FigureSurvey$Finding" (22 : Nat) "FigureSurvey$Finding" "kind" "I") ∈ lw_all := lw_g (lw_at lw_m9 34 rfl) rfl
theorem q2030 : (Jvm.Cond.fieldLink "FigureSurvey$Finding" (25 : Nat) "FigureSurvey$Finding" "figure" "LFigureSurvey$Figure;") ∈ lw_all := lw_g (lw_at lw_m9 37 rfl) rfl
theorem q2033 : (Jvm.Cond.fieldLink "FigureSurvey$Finding" (29 : Nat) "FigureSurvey$Finding" "other" "LFigureSurvey$Figure;") ∈ lw_all := lw_g (lw_at lw_m9 40 rfl) rfl
theorem q2035 : (Jvm.Cond.fieldLink "FigureSurvey$Finding" (32 : Nat) "FigureSurvey$Finding" "what" "I") ∈ lw_all := lw_g (lw_at lw_m9 42 rfl) rfl
theorem q2036 : (Jvm.Cond.fieldLink "FigureSurvey$Finding" (35 : Nat) "FigureSurvey$Finding" "weight" "I") ∈ lw_all := lw_g (lw_at lw_m9 43 rfl) rfl
theorem q2039 : (Jvm.Cond.fieldLink "FigureSurvey$Finding" (3 : Nat) "FigureSurvey$Finding" "this$0" "LFigureSurvey;") ∈ lw_all := lw_g (lw_at lw_m9 46 rfl) rfl
theorem q2040 : (Jvm.Cond.laysFinal "FigureSurvey$Finding" "FigureSurvey$Finding" "number" "I") ∈ lw_all := lw_g (lw_at lw_m9 47 rfl) rfl
theorem q2041 : (Jvm.Cond.soleField "FigureSurvey$Finding" "number") ∈ lw_all := lw_g (lw_at lw_m9 48 rfl) rfl
theorem q2042 : (Jvm.Cond.laysFinal "FigureSurvey$Finding" "FigureSurvey$Finding" "kind" "I") ∈ lw_all := lw_g (lw_at lw_m9 49 rfl) rfl
theorem q2043 : (Jvm.Cond.soleField "FigureSurvey$Finding" "kind") ∈ lw_all := lw_g (lw_at lw_m9 50 rfl) rfl
theorem q2044 : (Jvm.Cond.laysFinal "FigureSurvey$Finding" "FigureSurvey$Finding" "figure" "LFigureSurvey$Figure;") ∈ lw_all := lw_g (lw_at lw_m9 51 rfl) rfl
theorem q2045 : (Jvm.Cond.soleField "FigureSurvey$Finding" "figure") ∈ lw_all := lw_g (lw_at lw_m9 52 rfl) rfl
theorem q2046 : (Jvm.Cond.laysFinal "FigureSurvey$Finding" "FigureSurvey$Finding" "other" "LFigureSurvey$Figure;") ∈ lw_all := lw_g (lw_at lw_m9 53 rfl) rfl
theorem q2047 : (Jvm.Cond.soleField "FigureSurvey$Finding" "other") ∈ lw_all := lw_g (lw_at lw_m9 54 rfl) rfl
theorem q2048 : (Jvm.Cond.laysFinal "FigureSurvey$Finding" "FigureSurvey$Finding" "what" "I") ∈ lw_all := lw_g (lw_at lw_m9 55 rfl) rfl
theorem q2049 : (Jvm.Cond.soleField "FigureSurvey$Finding" "what") ∈ lw_all := lw_g (lw_at lw_m9 56 rfl) rfl
theorem q2050 : (Jvm.Cond.laysFinal "FigureSurvey$Finding" "FigureSurvey$Finding" "weight" "I") ∈ lw_all := lw_g (lw_at lw_m9 57 rfl) rfl
theorem q2051 : (Jvm.Cond.soleField "FigureSurvey$Finding" "weight") ∈ lw_all := lw_g (lw_at lw_m9 58 rfl) rfl
theorem q2052 : (Jvm.Cond.laysFinal "FigureSurvey$Finding" "FigureSurvey$Finding" "this$0" "LFigureSurvey;") ∈ lw_all := lw_g (lw_at lw_m9 59 rfl) rfl
theorem q2053 : (Jvm.Cond.soleField "FigureSurvey$Finding" "this$0") ∈ lw_all := lw_g (lw_at lw_m9 60 rfl) rfl
theorem q2054 : (Jvm.Cond.superclass "FigureSurvey$Finding" "java/lang/Object") ∈ lw_all := lw_g (lw_at lw_m9 61 rfl) rfl
theorem q2942 : (Jvm.Cond.castable "FigureSurvey$Finding" "java/lang/Object") ∈ lw_tbl := lw_at lw_m12 229 rfl
theorem in_X8 : ∀ w ∈ wsX80, w ∈ lw_all := lw_in wsX80 [2040, 2042, 2044, 2046, 2048, 2050, 2052] (by decide +kernel) (by decide +kernel)
/-! FigureSurvey$Scene -/
set_option maxRecDepth 100000
def RX9 : String := "FigureSurvey$Scene"
def TX9 : u_T := fun k => match k with
  | 0 => ("FigureSurvey$Scene", "panel", "LFigureSurvey$Panel;", true)
  | 1 => ("FigureSurvey$Scene", "genuine", "Ljava/util/ArrayList;", true)
  | 2 => ("FigureSurvey$Scene", "over", "Ljava/util/ArrayList;", true)
  | 3 => ("FigureSurvey$Scene", "dated", "Ljava/util/ArrayList;", true)
  | 4 => ("FigureSurvey$Scene", "row", "[I", true)
  | 5 => ("FigureSurvey$Scene", "isAbove", "[[Z", true)
  | 6 => ("FigureSurvey$Scene", "brokenDates", "I", false)
  | _ => ("FigureSurvey$Scene", "this$0", "LFigureSurvey;", true)
def tyX9 : Nat → FieldType := fun k => match k with
  | 0 => .object "FigureSurvey$Panel"
  | 1 => .object "java/util/ArrayList"
  | 2 => .object "java/util/ArrayList"
  | 3 => .object "java/util/ArrayList"
  | 4 => .array .int
  | 5 => .array (.array .boolean)
  | 6 => .int
  | _ => .object "FigureSurvey"
abbrev wsX90 : List Cond := u_ws RX9 TX9 8
theorem nmX9 : ∀ a, a < 8 → ∀ b, b < 8 → a ≠ b → (TX9 a).2.1 ≠ (TX9 b).2.1 := by decide +kernel
theorem tyX9_ok : ∀ k, k < 8 → parseFieldDescriptor (TX9 k).2.2.1 = some (tyX9 k) := by decide +kernel
abbrev cX9_init : ByteArray := prog_12_method_1_code
def yX9_init : MethodName := ⟨RX9, "<init>", "(LFigureSurvey;LFigureSurvey$Panel;)V"⟩
def dkwX9_init_14 : List UInt8 := [42, 42, 42, 186, 0, 123, 0, 0, 182, 0, 126, 181, 0, 130, 177]
abbrev dktX9_init_14 : List UInt8 := dkwX9_init_14 ++ []
def dkwX9_init_13 : List UInt8 := [182, 0, 39, 192, 0, 79, 180, 0, 117, 182, 0, 113, 4, 84, 132, 3, 1, 167, 255, 181, 42, 182, 0, 120]
abbrev dktX9_init_13 : List UInt8 := dkwX9_init_13 ++ dktX9_init_14
def dkwX9_init_12 : List UInt8 := [180, 0, 22, 29, 182, 0, 39, 192, 0, 79, 180, 0, 109, 182, 0, 113, 50, 42, 42, 180, 0, 22, 29]
abbrev dktX9_init_12 : List UInt8 := dkwX9_init_12 ++ dktX9_init_13
def dkwX9_init_11 : List UInt8 := [42, 180, 0, 22, 29, 182, 0, 39, 192, 0, 79, 182, 0, 106, 154, 0, 46, 42, 180, 0, 103, 42, 42]
abbrev dktX9_init_11 : List UInt8 := dkwX9_init_11 ++ dktX9_init_12
def dkwX9_init_10 : List UInt8 := [182, 0, 35, 197, 0, 101, 2, 181, 0, 103, 3, 62, 29, 42, 180, 0, 22, 182, 0, 35, 162, 0, 70, 42]
abbrev dktX9_init_10 : List UInt8 := dkwX9_init_10 ++ dktX9_init_11
def dkwX9_init_9 : List UInt8 := [186, 0, 89, 0, 0, 182, 0, 93, 181, 0, 97, 42, 42, 180, 0, 18, 182, 0, 35, 42, 180, 0, 18]
abbrev dktX9_init_9 : List UInt8 := dkwX9_init_9 ++ dktX9_init_10
def dkwX9_init_8 : List UInt8 := [42, 180, 0, 25, 25, 4, 182, 0, 50, 87, 167, 255, 193, 42, 43, 42, 180, 0, 18, 182, 0, 35, 42]
abbrev dktX9_init_8 : List UInt8 := dkwX9_init_8 ++ dktX9_init_9
def dkwX9_init_7 : List UInt8 := [167, 255, 227, 25, 4, 180, 0, 85, 154, 0, 16, 42, 180, 0, 22, 25, 4, 182, 0, 50, 87, 167, 0, 13]
abbrev dktX9_init_7 : List UInt8 := dkwX9_init_7 ++ dktX9_init_8
def dkwX9_init_6 : List UInt8 := [153, 0, 60, 45, 185, 0, 75, 1, 0, 192, 0, 79, 58, 4, 42, 25, 4, 182, 0, 81, 154, 0, 6]
abbrev dktX9_init_6 : List UInt8 := dkwX9_init_6 ++ dktX9_init_7
def dkwX9_init_5 : List UInt8 := [167, 255, 188, 43, 180, 0, 54, 182, 0, 58, 185, 0, 64, 1, 0, 78, 45, 185, 0, 70, 1, 0]
abbrev dktX9_init_5 : List UInt8 := dkwX9_init_5 ++ dktX9_init_6
def dkwX9_init_4 : List UInt8 := [42, 180, 0, 18, 43, 180, 0, 32, 29, 182, 0, 39, 192, 0, 43, 182, 0, 50, 87, 132, 3, 1]
abbrev dktX9_init_4 : List UInt8 := dkwX9_init_4 ++ dktX9_init_5
def dkwX9_init_3 : List UInt8 := [180, 0, 45, 44, 166, 0, 39, 43, 180, 0, 32, 29, 182, 0, 39, 192, 0, 43, 182, 0, 46, 153, 0, 22]
abbrev dktX9_init_3 : List UInt8 := dkwX9_init_3 ++ dktX9_init_4
def dkwX9_init_2 : List UInt8 := [62, 29, 43, 180, 0, 32, 182, 0, 35, 162, 0, 63, 43, 180, 0, 32, 29, 182, 0, 39, 192, 0, 43]
abbrev dktX9_init_2 : List UInt8 := dkwX9_init_2 ++ dktX9_init_3
def dkwX9_init_1 : List UInt8 := [89, 183, 0, 17, 181, 0, 22, 42, 187, 0, 15, 89, 183, 0, 17, 181, 0, 25, 42, 44, 181, 0, 28, 3]
abbrev dktX9_init_1 : List UInt8 := dkwX9_init_1 ++ dktX9_init_2
def dkwX9_init_0 : List UInt8 := [42, 43, 181, 0, 3, 42, 183, 0, 9, 42, 187, 0, 15, 89, 183, 0, 17, 181, 0, 18, 42, 187, 0, 15]
abbrev dktX9_init_0 : List UInt8 := dkwX9_init_0 ++ dktX9_init_1
theorem dksX9_init_0 : cX9_init.data.toList.drop 0 = dktX9_init_0 := by decide +kernel
theorem dksX9_init_1 : cX9_init.data.toList.drop 24 = dktX9_init_1 := dk_seg dksX9_init_0 24 rfl rfl
theorem dksX9_init_2 : cX9_init.data.toList.drop 48 = dktX9_init_2 := dk_seg dksX9_init_1 24 rfl rfl
theorem dksX9_init_3 : cX9_init.data.toList.drop 71 = dktX9_init_3 := dk_seg dksX9_init_2 23 rfl rfl
theorem dksX9_init_4 : cX9_init.data.toList.drop 95 = dktX9_init_4 := dk_seg dksX9_init_3 24 rfl rfl
theorem dksX9_init_5 : cX9_init.data.toList.drop 117 = dktX9_init_5 := dk_seg dksX9_init_4 22 rfl rfl
theorem dksX9_init_6 : cX9_init.data.toList.drop 139 = dktX9_init_6 := dk_seg dksX9_init_5 22 rfl rfl
theorem dksX9_init_7 : cX9_init.data.toList.drop 162 = dktX9_init_7 := dk_seg dksX9_init_6 23 rfl rfl
theorem dksX9_init_8 : cX9_init.data.toList.drop 186 = dktX9_init_8 := dk_seg dksX9_init_7 24 rfl rfl
theorem dksX9_init_9 : cX9_init.data.toList.drop 209 = dktX9_init_9 := dk_seg dksX9_init_8 23 rfl rfl
theorem dksX9_init_10 : cX9_init.data.toList.drop 232 = dktX9_init_10 := dk_seg dksX9_init_9 23 rfl rfl
theorem dksX9_init_11 : cX9_init.data.toList.drop 256 = dktX9_init_11 := dk_seg dksX9_init_10 24 rfl rfl
theorem dksX9_init_12 : cX9_init.data.toList.drop 279 = dktX9_init_12 := dk_seg dksX9_init_11 23 rfl rfl
theorem dksX9_init_13 : cX9_init.data.toList.drop 302 = dktX9_init_13 := dk_seg dksX9_init_12 23 rfl rfl
theorem dksX9_init_14 : cX9_init.data.toList.drop 326 = dktX9_init_14 := dk_seg dksX9_init_13 24 rfl rfl
theorem dX9_init_0 : decode cX9_init 0 = .ok (.aload_n 0, 1) := dk_42 (dk_at dksX9_init_0 0 rfl rfl)
theorem dX9_init_1 : decode cX9_init 1 = .ok (.aload_n 1, 1) := dk_43 (dk_at dksX9_init_0 1 rfl rfl)
theorem dX9_init_2 : decode cX9_init 2 = .ok (.putfield 3, 3) := dk_181 0 3 (dk_at dksX9_init_0 2 rfl rfl)
theorem dX9_init_5 : decode cX9_init 5 = .ok (.aload_n 0, 1) := dk_42 (dk_at dksX9_init_0 5 rfl rfl)
theorem dX9_init_6 : decode cX9_init 6 = .ok (.invokespecial 9, 3) := dk_183 0 9 (dk_at dksX9_init_0 6 rfl rfl)
theorem dX9_init_9 : decode cX9_init 9 = .ok (.aload_n 0, 1) := dk_42 (dk_at dksX9_init_0 9 rfl rfl)
theorem dX9_init_10 : decode cX9_init 10 = .ok (.new 15, 3) := dk_187 0 15 (dk_at dksX9_init_0 10 rfl rfl)
theorem dX9_init_13 : decode cX9_init 13 = .ok (.dup, 1) := dk_89 (dk_at dksX9_init_0 13 rfl rfl)
theorem dX9_init_14 : decode cX9_init 14 = .ok (.invokespecial 17, 3) := dk_183 0 17 (dk_at dksX9_init_0 14 rfl rfl)
theorem dX9_init_17 : decode cX9_init 17 = .ok (.putfield 18, 3) := dk_181 0 18 (dk_at dksX9_init_0 17 rfl rfl)
theorem dX9_init_20 : decode cX9_init 20 = .ok (.aload_n 0, 1) := dk_42 (dk_at dksX9_init_0 20 rfl rfl)
theorem dX9_init_21 : decode cX9_init 21 = .ok (.new 15, 3) := dk_187 0 15 (dk_at dksX9_init_0 21 rfl rfl)
theorem dX9_init_24 : decode cX9_init 24 = .ok (.dup, 1) := dk_89 (dk_at dksX9_init_1 0 rfl rfl)
theorem dX9_init_25 : decode cX9_init 25 = .ok (.invokespecial 17, 3) := dk_183 0 17 (dk_at dksX9_init_1 1 rfl rfl)
theorem dX9_init_28 : decode cX9_init 28 = .ok (.putfield 22, 3) := dk_181 0 22 (dk_at dksX9_init_1 4 rfl rfl)
theorem dX9_init_31 : decode cX9_init 31 = .ok (.aload_n 0, 1) := dk_42 (dk_at dksX9_init_1 7 rfl rfl)
theorem dX9_init_32 : decode cX9_init 32 = .ok (.new 15, 3) := dk_187 0 15 (dk_at dksX9_init_1 8 rfl rfl)
theorem dX9_init_35 : decode cX9_init 35 = .ok (.dup, 1) := dk_89 (dk_at dksX9_init_1 11 rfl rfl)
theorem dX9_init_36 : decode cX9_init 36 = .ok (.invokespecial 17, 3) := dk_183 0 17 (dk_at dksX9_init_1 12 rfl rfl)
theorem dX9_init_39 : decode cX9_init 39 = .ok (.putfield 25, 3) := dk_181 0 25 (dk_at dksX9_init_1 15 rfl rfl)
theorem dX9_init_42 : decode cX9_init 42 = .ok (.aload_n 0, 1) := dk_42 (dk_at dksX9_init_1 18 rfl rfl)
theorem dX9_init_43 : decode cX9_init 43 = .ok (.aload_n 2, 1) := dk_44 (dk_at dksX9_init_1 19 rfl rfl)
theorem dX9_init_44 : decode cX9_init 44 = .ok (.putfield 28, 3) := dk_181 0 28 (dk_at dksX9_init_1 20 rfl rfl)
theorem dX9_init_47 : decode cX9_init 47 = .ok (.iconst 0, 1) := dk_3 (dk_at dksX9_init_1 23 rfl rfl)
theorem dX9_init_48 : decode cX9_init 48 = .ok (.istore_n 3, 1) := dk_62 (dk_at dksX9_init_2 0 rfl rfl)
theorem dX9_init_49 : decode cX9_init 49 = .ok (.iload_n 3, 1) := dk_29 (dk_at dksX9_init_2 1 rfl rfl)
theorem dX9_init_50 : decode cX9_init 50 = .ok (.aload_n 1, 1) := dk_43 (dk_at dksX9_init_2 2 rfl rfl)
theorem dX9_init_51 : decode cX9_init 51 = .ok (.getfield 32, 3) := dk_180 0 32 (dk_at dksX9_init_2 3 rfl rfl)
theorem dX9_init_54 : decode cX9_init 54 = .ok (.invokevirtual 35, 3) := dk_182 0 35 (dk_at dksX9_init_2 6 rfl rfl)
theorem dX9_init_57 : decode cX9_init 57 = .ok (.if_icmp .ge 63, 3) := dk_162 0 63 (dk_at dksX9_init_2 9 rfl rfl)
theorem dX9_init_60 : decode cX9_init 60 = .ok (.aload_n 1, 1) := dk_43 (dk_at dksX9_init_2 12 rfl rfl)
theorem dX9_init_61 : decode cX9_init 61 = .ok (.getfield 32, 3) := dk_180 0 32 (dk_at dksX9_init_2 13 rfl rfl)
theorem dX9_init_64 : decode cX9_init 64 = .ok (.iload_n 3, 1) := dk_29 (dk_at dksX9_init_2 16 rfl rfl)
theorem dX9_init_65 : decode cX9_init 65 = .ok (.invokevirtual 39, 3) := dk_182 0 39 (dk_at dksX9_init_2 17 rfl rfl)
theorem dX9_init_68 : decode cX9_init 68 = .ok (.checkcast 43, 3) := dk_192 0 43 (dk_at dksX9_init_2 20 rfl rfl)
theorem dX9_init_71 : decode cX9_init 71 = .ok (.getfield 45, 3) := dk_180 0 45 (dk_at dksX9_init_3 0 rfl rfl)
theorem dX9_init_74 : decode cX9_init 74 = .ok (.aload_n 2, 1) := dk_44 (dk_at dksX9_init_3 3 rfl rfl)
theorem dX9_init_75 : decode cX9_init 75 = .ok (.if_acmp .ne 39, 3) := dk_166 0 39 (dk_at dksX9_init_3 4 rfl rfl)
theorem dX9_init_78 : decode cX9_init 78 = .ok (.aload_n 1, 1) := dk_43 (dk_at dksX9_init_3 7 rfl rfl)
theorem dX9_init_79 : decode cX9_init 79 = .ok (.getfield 32, 3) := dk_180 0 32 (dk_at dksX9_init_3 8 rfl rfl)
theorem dX9_init_82 : decode cX9_init 82 = .ok (.iload_n 3, 1) := dk_29 (dk_at dksX9_init_3 11 rfl rfl)
theorem dX9_init_83 : decode cX9_init 83 = .ok (.invokevirtual 39, 3) := dk_182 0 39 (dk_at dksX9_init_3 12 rfl rfl)
theorem dX9_init_86 : decode cX9_init 86 = .ok (.checkcast 43, 3) := dk_192 0 43 (dk_at dksX9_init_3 15 rfl rfl)
theorem dX9_init_89 : decode cX9_init 89 = .ok (.invokevirtual 46, 3) := dk_182 0 46 (dk_at dksX9_init_3 18 rfl rfl)
theorem dX9_init_92 : decode cX9_init 92 = .ok (.ifCond .eq 22, 3) := dk_153 0 22 (dk_at dksX9_init_3 21 rfl rfl)
theorem dX9_init_95 : decode cX9_init 95 = .ok (.aload_n 0, 1) := dk_42 (dk_at dksX9_init_4 0 rfl rfl)
theorem dX9_init_96 : decode cX9_init 96 = .ok (.getfield 18, 3) := dk_180 0 18 (dk_at dksX9_init_4 1 rfl rfl)
theorem dX9_init_99 : decode cX9_init 99 = .ok (.aload_n 1, 1) := dk_43 (dk_at dksX9_init_4 4 rfl rfl)
theorem dX9_init_100 : decode cX9_init 100 = .ok (.getfield 32, 3) := dk_180 0 32 (dk_at dksX9_init_4 5 rfl rfl)
theorem dX9_init_103 : decode cX9_init 103 = .ok (.iload_n 3, 1) := dk_29 (dk_at dksX9_init_4 8 rfl rfl)
theorem dX9_init_104 : decode cX9_init 104 = .ok (.invokevirtual 39, 3) := dk_182 0 39 (dk_at dksX9_init_4 9 rfl rfl)
theorem dX9_init_107 : decode cX9_init 107 = .ok (.checkcast 43, 3) := dk_192 0 43 (dk_at dksX9_init_4 12 rfl rfl)
theorem dX9_init_110 : decode cX9_init 110 = .ok (.invokevirtual 50, 3) := dk_182 0 50 (dk_at dksX9_init_4 15 rfl rfl)
theorem dX9_init_113 : decode cX9_init 113 = .ok (.pop, 1) := dk_87 (dk_at dksX9_init_4 18 rfl rfl)
theorem dX9_init_114 : decode cX9_init 114 = .ok (.iinc 3 1, 3) := dk_132 3 1 (dk_at dksX9_init_4 19 rfl rfl)
theorem dX9_init_117 : decode cX9_init 117 = .ok (.goto (-68), 3) := dk_167 255 188 (dk_at dksX9_init_5 0 rfl rfl)
theorem dX9_init_120 : decode cX9_init 120 = .ok (.aload_n 1, 1) := dk_43 (dk_at dksX9_init_5 3 rfl rfl)
theorem dX9_init_121 : decode cX9_init 121 = .ok (.getfield 54, 3) := dk_180 0 54 (dk_at dksX9_init_5 4 rfl rfl)
theorem dX9_init_124 : decode cX9_init 124 = .ok (.invokevirtual 58, 3) := dk_182 0 58 (dk_at dksX9_init_5 7 rfl rfl)
theorem dX9_init_127 : decode cX9_init 127 = .ok (.invokeinterface 64 1, 5) := by decide +kernel
theorem dX9_init_132 : decode cX9_init 132 = .ok (.astore_n 3, 1) := dk_78 (dk_at dksX9_init_5 15 rfl rfl)
theorem dX9_init_133 : decode cX9_init 133 = .ok (.aload_n 3, 1) := dk_45 (dk_at dksX9_init_5 16 rfl rfl)
theorem dX9_init_134 : decode cX9_init 134 = .ok (.invokeinterface 70 1, 5) := by decide +kernel
theorem dX9_init_139 : decode cX9_init 139 = .ok (.ifCond .eq 60, 3) := dk_153 0 60 (dk_at dksX9_init_6 0 rfl rfl)
theorem dX9_init_142 : decode cX9_init 142 = .ok (.aload_n 3, 1) := dk_45 (dk_at dksX9_init_6 3 rfl rfl)
theorem dX9_init_143 : decode cX9_init 143 = .ok (.invokeinterface 75 1, 5) := by decide +kernel
theorem dX9_init_148 : decode cX9_init 148 = .ok (.checkcast 79, 3) := dk_192 0 79 (dk_at dksX9_init_6 9 rfl rfl)
theorem dX9_init_151 : decode cX9_init 151 = .ok (.astore 4, 2) := dk_58 4 (dk_at dksX9_init_6 12 rfl rfl)
theorem dX9_init_153 : decode cX9_init 153 = .ok (.aload_n 0, 1) := dk_42 (dk_at dksX9_init_6 14 rfl rfl)
theorem dX9_init_154 : decode cX9_init 154 = .ok (.aload 4, 2) := dk_25 4 (dk_at dksX9_init_6 15 rfl rfl)
theorem dX9_init_156 : decode cX9_init 156 = .ok (.invokevirtual 81, 3) := dk_182 0 81 (dk_at dksX9_init_6 17 rfl rfl)
theorem dX9_init_159 : decode cX9_init 159 = .ok (.ifCond .ne 6, 3) := dk_154 0 6 (dk_at dksX9_init_6 20 rfl rfl)
theorem dX9_init_162 : decode cX9_init 162 = .ok (.goto (-29), 3) := dk_167 255 227 (dk_at dksX9_init_7 0 rfl rfl)
theorem dX9_init_165 : decode cX9_init 165 = .ok (.aload 4, 2) := dk_25 4 (dk_at dksX9_init_7 3 rfl rfl)
theorem dX9_init_167 : decode cX9_init 167 = .ok (.getfield 85, 3) := dk_180 0 85 (dk_at dksX9_init_7 5 rfl rfl)
theorem dX9_init_170 : decode cX9_init 170 = .ok (.ifCond .ne 16, 3) := dk_154 0 16 (dk_at dksX9_init_7 8 rfl rfl)
theorem dX9_init_173 : decode cX9_init 173 = .ok (.aload_n 0, 1) := dk_42 (dk_at dksX9_init_7 11 rfl rfl)
theorem dX9_init_174 : decode cX9_init 174 = .ok (.getfield 22, 3) := dk_180 0 22 (dk_at dksX9_init_7 12 rfl rfl)
theorem dX9_init_177 : decode cX9_init 177 = .ok (.aload 4, 2) := dk_25 4 (dk_at dksX9_init_7 15 rfl rfl)
theorem dX9_init_179 : decode cX9_init 179 = .ok (.invokevirtual 50, 3) := dk_182 0 50 (dk_at dksX9_init_7 17 rfl rfl)
theorem dX9_init_182 : decode cX9_init 182 = .ok (.pop, 1) := dk_87 (dk_at dksX9_init_7 20 rfl rfl)
theorem dX9_init_183 : decode cX9_init 183 = .ok (.goto 13, 3) := dk_167 0 13 (dk_at dksX9_init_7 21 rfl rfl)
theorem dX9_init_186 : decode cX9_init 186 = .ok (.aload_n 0, 1) := dk_42 (dk_at dksX9_init_8 0 rfl rfl)
theorem dX9_init_187 : decode cX9_init 187 = .ok (.getfield 25, 3) := dk_180 0 25 (dk_at dksX9_init_8 1 rfl rfl)
theorem dX9_init_190 : decode cX9_init 190 = .ok (.aload 4, 2) := dk_25 4 (dk_at dksX9_init_8 4 rfl rfl)
theorem dX9_init_192 : decode cX9_init 192 = .ok (.invokevirtual 50, 3) := dk_182 0 50 (dk_at dksX9_init_8 6 rfl rfl)
theorem dX9_init_195 : decode cX9_init 195 = .ok (.pop, 1) := dk_87 (dk_at dksX9_init_8 9 rfl rfl)
theorem dX9_init_196 : decode cX9_init 196 = .ok (.goto (-63), 3) := dk_167 255 193 (dk_at dksX9_init_8 10 rfl rfl)
theorem dX9_init_199 : decode cX9_init 199 = .ok (.aload_n 0, 1) := dk_42 (dk_at dksX9_init_8 13 rfl rfl)
theorem dX9_init_200 : decode cX9_init 200 = .ok (.aload_n 1, 1) := dk_43 (dk_at dksX9_init_8 14 rfl rfl)
theorem dX9_init_201 : decode cX9_init 201 = .ok (.aload_n 0, 1) := dk_42 (dk_at dksX9_init_8 15 rfl rfl)
theorem dX9_init_202 : decode cX9_init 202 = .ok (.getfield 18, 3) := dk_180 0 18 (dk_at dksX9_init_8 16 rfl rfl)
theorem dX9_init_205 : decode cX9_init 205 = .ok (.invokevirtual 35, 3) := dk_182 0 35 (dk_at dksX9_init_8 19 rfl rfl)
theorem dX9_init_208 : decode cX9_init 208 = .ok (.aload_n 0, 1) := dk_42 (dk_at dksX9_init_8 22 rfl rfl)
theorem dX9_init_209 : decode cX9_init 209 = .ok (.invokedynamic 89, 5) := by decide +kernel
theorem dX9_init_214 : decode cX9_init 214 = .ok (.invokevirtual 93, 3) := dk_182 0 93 (dk_at dksX9_init_9 5 rfl rfl)
theorem dX9_init_217 : decode cX9_init 217 = .ok (.putfield 97, 3) := dk_181 0 97 (dk_at dksX9_init_9 8 rfl rfl)
theorem dX9_init_220 : decode cX9_init 220 = .ok (.aload_n 0, 1) := dk_42 (dk_at dksX9_init_9 11 rfl rfl)
theorem dX9_init_221 : decode cX9_init 221 = .ok (.aload_n 0, 1) := dk_42 (dk_at dksX9_init_9 12 rfl rfl)
theorem dX9_init_222 : decode cX9_init 222 = .ok (.getfield 18, 3) := dk_180 0 18 (dk_at dksX9_init_9 13 rfl rfl)
theorem dX9_init_225 : decode cX9_init 225 = .ok (.invokevirtual 35, 3) := dk_182 0 35 (dk_at dksX9_init_9 16 rfl rfl)
theorem dX9_init_228 : decode cX9_init 228 = .ok (.aload_n 0, 1) := dk_42 (dk_at dksX9_init_9 19 rfl rfl)
theorem dX9_init_229 : decode cX9_init 229 = .ok (.getfield 18, 3) := dk_180 0 18 (dk_at dksX9_init_9 20 rfl rfl)
theorem dX9_init_232 : decode cX9_init 232 = .ok (.invokevirtual 35, 3) := dk_182 0 35 (dk_at dksX9_init_10 0 rfl rfl)
theorem dX9_init_235 : decode cX9_init 235 = .ok (.multianewarray 101 2, 4) := by decide +kernel
theorem dX9_init_239 : decode cX9_init 239 = .ok (.putfield 103, 3) := dk_181 0 103 (dk_at dksX9_init_10 7 rfl rfl)
theorem dX9_init_242 : decode cX9_init 242 = .ok (.iconst 0, 1) := dk_3 (dk_at dksX9_init_10 10 rfl rfl)
theorem dX9_init_243 : decode cX9_init 243 = .ok (.istore_n 3, 1) := dk_62 (dk_at dksX9_init_10 11 rfl rfl)
theorem dX9_init_244 : decode cX9_init 244 = .ok (.iload_n 3, 1) := dk_29 (dk_at dksX9_init_10 12 rfl rfl)
theorem dX9_init_245 : decode cX9_init 245 = .ok (.aload_n 0, 1) := dk_42 (dk_at dksX9_init_10 13 rfl rfl)
theorem dX9_init_246 : decode cX9_init 246 = .ok (.getfield 22, 3) := dk_180 0 22 (dk_at dksX9_init_10 14 rfl rfl)
theorem dX9_init_249 : decode cX9_init 249 = .ok (.invokevirtual 35, 3) := dk_182 0 35 (dk_at dksX9_init_10 17 rfl rfl)
theorem dX9_init_252 : decode cX9_init 252 = .ok (.if_icmp .ge 70, 3) := dk_162 0 70 (dk_at dksX9_init_10 20 rfl rfl)
theorem dX9_init_255 : decode cX9_init 255 = .ok (.aload_n 0, 1) := dk_42 (dk_at dksX9_init_10 23 rfl rfl)
theorem dX9_init_256 : decode cX9_init 256 = .ok (.aload_n 0, 1) := dk_42 (dk_at dksX9_init_11 0 rfl rfl)
theorem dX9_init_257 : decode cX9_init 257 = .ok (.getfield 22, 3) := dk_180 0 22 (dk_at dksX9_init_11 1 rfl rfl)
theorem dX9_init_260 : decode cX9_init 260 = .ok (.iload_n 3, 1) := dk_29 (dk_at dksX9_init_11 4 rfl rfl)
theorem dX9_init_261 : decode cX9_init 261 = .ok (.invokevirtual 39, 3) := dk_182 0 39 (dk_at dksX9_init_11 5 rfl rfl)
theorem dX9_init_264 : decode cX9_init 264 = .ok (.checkcast 79, 3) := dk_192 0 79 (dk_at dksX9_init_11 8 rfl rfl)
theorem dX9_init_267 : decode cX9_init 267 = .ok (.invokevirtual 106, 3) := dk_182 0 106 (dk_at dksX9_init_11 11 rfl rfl)
theorem dX9_init_270 : decode cX9_init 270 = .ok (.ifCond .ne 46, 3) := dk_154 0 46 (dk_at dksX9_init_11 14 rfl rfl)
theorem dX9_init_273 : decode cX9_init 273 = .ok (.aload_n 0, 1) := dk_42 (dk_at dksX9_init_11 17 rfl rfl)
theorem dX9_init_274 : decode cX9_init 274 = .ok (.getfield 103, 3) := dk_180 0 103 (dk_at dksX9_init_11 18 rfl rfl)
theorem dX9_init_277 : decode cX9_init 277 = .ok (.aload_n 0, 1) := dk_42 (dk_at dksX9_init_11 21 rfl rfl)
theorem dX9_init_278 : decode cX9_init 278 = .ok (.aload_n 0, 1) := dk_42 (dk_at dksX9_init_11 22 rfl rfl)
theorem dX9_init_279 : decode cX9_init 279 = .ok (.getfield 22, 3) := dk_180 0 22 (dk_at dksX9_init_12 0 rfl rfl)
theorem dX9_init_282 : decode cX9_init 282 = .ok (.iload_n 3, 1) := dk_29 (dk_at dksX9_init_12 3 rfl rfl)
theorem dX9_init_283 : decode cX9_init 283 = .ok (.invokevirtual 39, 3) := dk_182 0 39 (dk_at dksX9_init_12 4 rfl rfl)
theorem dX9_init_286 : decode cX9_init 286 = .ok (.checkcast 79, 3) := dk_192 0 79 (dk_at dksX9_init_12 7 rfl rfl)
theorem dX9_init_289 : decode cX9_init 289 = .ok (.getfield 109, 3) := dk_180 0 109 (dk_at dksX9_init_12 10 rfl rfl)
theorem dX9_init_292 : decode cX9_init 292 = .ok (.invokevirtual 113, 3) := dk_182 0 113 (dk_at dksX9_init_12 13 rfl rfl)
theorem dX9_init_295 : decode cX9_init 295 = .ok (.aaload, 1) := dk_50 (dk_at dksX9_init_12 16 rfl rfl)
theorem dX9_init_296 : decode cX9_init 296 = .ok (.aload_n 0, 1) := dk_42 (dk_at dksX9_init_12 17 rfl rfl)
theorem dX9_init_297 : decode cX9_init 297 = .ok (.aload_n 0, 1) := dk_42 (dk_at dksX9_init_12 18 rfl rfl)
theorem dX9_init_298 : decode cX9_init 298 = .ok (.getfield 22, 3) := dk_180 0 22 (dk_at dksX9_init_12 19 rfl rfl)
theorem dX9_init_301 : decode cX9_init 301 = .ok (.iload_n 3, 1) := dk_29 (dk_at dksX9_init_12 22 rfl rfl)
theorem dX9_init_302 : decode cX9_init 302 = .ok (.invokevirtual 39, 3) := dk_182 0 39 (dk_at dksX9_init_13 0 rfl rfl)
theorem dX9_init_305 : decode cX9_init 305 = .ok (.checkcast 79, 3) := dk_192 0 79 (dk_at dksX9_init_13 3 rfl rfl)
theorem dX9_init_308 : decode cX9_init 308 = .ok (.getfield 117, 3) := dk_180 0 117 (dk_at dksX9_init_13 6 rfl rfl)
theorem dX9_init_311 : decode cX9_init 311 = .ok (.invokevirtual 113, 3) := dk_182 0 113 (dk_at dksX9_init_13 9 rfl rfl)
theorem dX9_init_314 : decode cX9_init 314 = .ok (.iconst 1, 1) := dk_4 (dk_at dksX9_init_13 12 rfl rfl)
theorem dX9_init_315 : decode cX9_init 315 = .ok (.bastore, 1) := dk_84 (dk_at dksX9_init_13 13 rfl rfl)
theorem dX9_init_316 : decode cX9_init 316 = .ok (.iinc 3 1, 3) := dk_132 3 1 (dk_at dksX9_init_13 14 rfl rfl)
theorem dX9_init_319 : decode cX9_init 319 = .ok (.goto (-75), 3) := dk_167 255 181 (dk_at dksX9_init_13 17 rfl rfl)
theorem dX9_init_322 : decode cX9_init 322 = .ok (.aload_n 0, 1) := dk_42 (dk_at dksX9_init_13 20 rfl rfl)
theorem dX9_init_323 : decode cX9_init 323 = .ok (.invokevirtual 120, 3) := dk_182 0 120 (dk_at dksX9_init_13 21 rfl rfl)
theorem dX9_init_326 : decode cX9_init 326 = .ok (.aload_n 0, 1) := dk_42 (dk_at dksX9_init_14 0 rfl rfl)
theorem dX9_init_327 : decode cX9_init 327 = .ok (.aload_n 0, 1) := dk_42 (dk_at dksX9_init_14 1 rfl rfl)
theorem dX9_init_328 : decode cX9_init 328 = .ok (.aload_n 0, 1) := dk_42 (dk_at dksX9_init_14 2 rfl rfl)
theorem dX9_init_329 : decode cX9_init 329 = .ok (.invokedynamic 123, 5) := by decide +kernel
theorem dX9_init_334 : decode cX9_init 334 = .ok (.invokevirtual 126, 3) := dk_182 0 126 (dk_at dksX9_init_14 8 rfl rfl)
theorem dX9_init_337 : decode cX9_init 337 = .ok (.putfield 130, 3) := dk_181 0 130 (dk_at dksX9_init_14 11 rfl rfl)
theorem dX9_init_340 : decode cX9_init 340 = .ok (.return_, 1) := dk_177 (dk_at dksX9_init_14 14 rfl rfl)
abbrev cX9_counts : ByteArray := prog_12_method_3_code
def yX9_counts : MethodName := ⟨RX9, "counts", "(LFigureSurvey$Finding;)Z"⟩
def dkwX9_counts_1 : List UInt8 := [180, 0, 85, 154, 0, 14, 42, 43, 180, 0, 117, 182, 0, 113, 155, 0, 7, 4, 167, 0, 4, 3, 172]
abbrev dktX9_counts_1 : List UInt8 := dkwX9_counts_1 ++ []
def dkwX9_counts_0 : List UInt8 := [43, 42, 180, 0, 28, 182, 0, 137, 153, 0, 36, 42, 43, 180, 0, 109, 182, 0, 113, 155, 0, 25, 43]
abbrev dktX9_counts_0 : List UInt8 := dkwX9_counts_0 ++ dktX9_counts_1
theorem dksX9_counts_0 : cX9_counts.data.toList.drop 0 = dktX9_counts_0 := by decide +kernel
theorem dksX9_counts_1 : cX9_counts.data.toList.drop 23 = dktX9_counts_1 := dk_seg dksX9_counts_0 23 rfl rfl
theorem dX9_counts_0 : decode cX9_counts 0 = .ok (.aload_n 1, 1) := dk_43 (dk_at dksX9_counts_0 0 rfl rfl)
theorem dX9_counts_1 : decode cX9_counts 1 = .ok (.aload_n 0, 1) := dk_42 (dk_at dksX9_counts_0 1 rfl rfl)
theorem dX9_counts_2 : decode cX9_counts 2 = .ok (.getfield 28, 3) := dk_180 0 28 (dk_at dksX9_counts_0 2 rfl rfl)
theorem dX9_counts_5 : decode cX9_counts 5 = .ok (.invokevirtual 137, 3) := dk_182 0 137 (dk_at dksX9_counts_0 5 rfl rfl)
theorem dX9_counts_8 : decode cX9_counts 8 = .ok (.ifCond .eq 36, 3) := dk_153 0 36 (dk_at dksX9_counts_0 8 rfl rfl)
theorem dX9_counts_11 : decode cX9_counts 11 = .ok (.aload_n 0, 1) := dk_42 (dk_at dksX9_counts_0 11 rfl rfl)
theorem dX9_counts_12 : decode cX9_counts 12 = .ok (.aload_n 1, 1) := dk_43 (dk_at dksX9_counts_0 12 rfl rfl)
theorem dX9_counts_13 : decode cX9_counts 13 = .ok (.getfield 109, 3) := dk_180 0 109 (dk_at dksX9_counts_0 13 rfl rfl)
theorem dX9_counts_16 : decode cX9_counts 16 = .ok (.invokevirtual 113, 3) := dk_182 0 113 (dk_at dksX9_counts_0 16 rfl rfl)
theorem dX9_counts_19 : decode cX9_counts 19 = .ok (.ifCond .lt 25, 3) := dk_155 0 25 (dk_at dksX9_counts_0 19 rfl rfl)
theorem dX9_counts_22 : decode cX9_counts 22 = .ok (.aload_n 1, 1) := dk_43 (dk_at dksX9_counts_0 22 rfl rfl)
theorem dX9_counts_23 : decode cX9_counts 23 = .ok (.getfield 85, 3) := dk_180 0 85 (dk_at dksX9_counts_1 0 rfl rfl)
theorem dX9_counts_26 : decode cX9_counts 26 = .ok (.ifCond .ne 14, 3) := dk_154 0 14 (dk_at dksX9_counts_1 3 rfl rfl)
theorem dX9_counts_29 : decode cX9_counts 29 = .ok (.aload_n 0, 1) := dk_42 (dk_at dksX9_counts_1 6 rfl rfl)
theorem dX9_counts_30 : decode cX9_counts 30 = .ok (.aload_n 1, 1) := dk_43 (dk_at dksX9_counts_1 7 rfl rfl)
theorem dX9_counts_31 : decode cX9_counts 31 = .ok (.getfield 117, 3) := dk_180 0 117 (dk_at dksX9_counts_1 8 rfl rfl)
theorem dX9_counts_34 : decode cX9_counts 34 = .ok (.invokevirtual 113, 3) := dk_182 0 113 (dk_at dksX9_counts_1 11 rfl rfl)
theorem dX9_counts_37 : decode cX9_counts 37 = .ok (.ifCond .lt 7, 3) := dk_155 0 7 (dk_at dksX9_counts_1 14 rfl rfl)
theorem dX9_counts_40 : decode cX9_counts 40 = .ok (.iconst 1, 1) := dk_4 (dk_at dksX9_counts_1 17 rfl rfl)
theorem dX9_counts_41 : decode cX9_counts 41 = .ok (.goto 4, 3) := dk_167 0 4 (dk_at dksX9_counts_1 18 rfl rfl)
theorem dX9_counts_44 : decode cX9_counts 44 = .ok (.iconst 0, 1) := dk_3 (dk_at dksX9_counts_1 21 rfl rfl)
theorem dX9_counts_45 : decode cX9_counts 45 = .ok (.ireturn, 1) := dk_172 (dk_at dksX9_counts_1 22 rfl rfl)
abbrev cX9_index : ByteArray := prog_12_method_2_code
def yX9_index : MethodName := ⟨RX9, "index", "(LFigureSurvey$Figure;)I"⟩
def dkwX9_index_0 : List UInt8 := [42, 180, 0, 18, 43, 182, 0, 133, 172]
abbrev dktX9_index_0 : List UInt8 := dkwX9_index_0 ++ []
theorem dksX9_index_0 : cX9_index.data.toList.drop 0 = dktX9_index_0 := by decide +kernel
theorem dX9_index_0 : decode cX9_index 0 = .ok (.aload_n 0, 1) := dk_42 (dk_at dksX9_index_0 0 rfl rfl)
theorem dX9_index_1 : decode cX9_index 1 = .ok (.getfield 18, 3) := dk_180 0 18 (dk_at dksX9_index_0 1 rfl rfl)
theorem dX9_index_4 : decode cX9_index 4 = .ok (.aload_n 1, 1) := dk_43 (dk_at dksX9_index_0 4 rfl rfl)
theorem dX9_index_5 : decode cX9_index 5 = .ok (.invokevirtual 133, 3) := dk_182 0 133 (dk_at dksX9_index_0 5 rfl rfl)
theorem dX9_index_8 : decode cX9_index 8 = .ok (.ireturn, 1) := dk_172 (dk_at dksX9_index_0 8 rfl rfl)
abbrev cX9_price : ByteArray := prog_12_method_4_code
def yX9_price : MethodName := ⟨RX9, "price", "(II)I"⟩
def dkwX9_price_3 : List UInt8 := [132, 4, 1, 167, 255, 190, 29, 172]
abbrev dktX9_price_3 : List UInt8 := dkwX9_price_3 ++ []
def dkwX9_price_2 : List UInt8 := [25, 5, 180, 0, 109, 182, 0, 113, 184, 0, 141, 153, 0, 11, 29, 25, 5, 180, 0, 145, 96, 62]
abbrev dktX9_price_2 : List UInt8 := dkwX9_price_2 ++ dktX9_price_3
def dkwX9_price_1 : List UInt8 := [182, 0, 39, 192, 0, 79, 58, 5, 42, 25, 5, 180, 0, 117, 182, 0, 113, 28, 160, 0, 27, 27, 42]
abbrev dktX9_price_1 : List UInt8 := dkwX9_price_1 ++ dktX9_price_2
def dkwX9_price_0 : List UInt8 := [3, 62, 3, 54, 4, 21, 4, 42, 180, 0, 22, 182, 0, 35, 162, 0, 60, 42, 180, 0, 22, 21, 4]
abbrev dktX9_price_0 : List UInt8 := dkwX9_price_0 ++ dktX9_price_1
theorem dksX9_price_0 : cX9_price.data.toList.drop 0 = dktX9_price_0 := by decide +kernel
theorem dksX9_price_1 : cX9_price.data.toList.drop 23 = dktX9_price_1 := dk_seg dksX9_price_0 23 rfl rfl
theorem dksX9_price_2 : cX9_price.data.toList.drop 46 = dktX9_price_2 := dk_seg dksX9_price_1 23 rfl rfl
theorem dksX9_price_3 : cX9_price.data.toList.drop 68 = dktX9_price_3 := dk_seg dksX9_price_2 22 rfl rfl
theorem dX9_price_0 : decode cX9_price 0 = .ok (.iconst 0, 1) := dk_3 (dk_at dksX9_price_0 0 rfl rfl)
theorem dX9_price_1 : decode cX9_price 1 = .ok (.istore_n 3, 1) := dk_62 (dk_at dksX9_price_0 1 rfl rfl)
theorem dX9_price_2 : decode cX9_price 2 = .ok (.iconst 0, 1) := dk_3 (dk_at dksX9_price_0 2 rfl rfl)
theorem dX9_price_3 : decode cX9_price 3 = .ok (.istore 4, 2) := dk_54 4 (dk_at dksX9_price_0 3 rfl rfl)
theorem dX9_price_5 : decode cX9_price 5 = .ok (.iload 4, 2) := dk_21 4 (dk_at dksX9_price_0 5 rfl rfl)
theorem dX9_price_7 : decode cX9_price 7 = .ok (.aload_n 0, 1) := dk_42 (dk_at dksX9_price_0 7 rfl rfl)
theorem dX9_price_8 : decode cX9_price 8 = .ok (.getfield 22, 3) := dk_180 0 22 (dk_at dksX9_price_0 8 rfl rfl)
theorem dX9_price_11 : decode cX9_price 11 = .ok (.invokevirtual 35, 3) := dk_182 0 35 (dk_at dksX9_price_0 11 rfl rfl)
theorem dX9_price_14 : decode cX9_price 14 = .ok (.if_icmp .ge 60, 3) := dk_162 0 60 (dk_at dksX9_price_0 14 rfl rfl)
theorem dX9_price_17 : decode cX9_price 17 = .ok (.aload_n 0, 1) := dk_42 (dk_at dksX9_price_0 17 rfl rfl)
theorem dX9_price_18 : decode cX9_price 18 = .ok (.getfield 22, 3) := dk_180 0 22 (dk_at dksX9_price_0 18 rfl rfl)
theorem dX9_price_21 : decode cX9_price 21 = .ok (.iload 4, 2) := dk_21 4 (dk_at dksX9_price_0 21 rfl rfl)
theorem dX9_price_23 : decode cX9_price 23 = .ok (.invokevirtual 39, 3) := dk_182 0 39 (dk_at dksX9_price_1 0 rfl rfl)
theorem dX9_price_26 : decode cX9_price 26 = .ok (.checkcast 79, 3) := dk_192 0 79 (dk_at dksX9_price_1 3 rfl rfl)
theorem dX9_price_29 : decode cX9_price 29 = .ok (.astore 5, 2) := dk_58 5 (dk_at dksX9_price_1 6 rfl rfl)
theorem dX9_price_31 : decode cX9_price 31 = .ok (.aload_n 0, 1) := dk_42 (dk_at dksX9_price_1 8 rfl rfl)
theorem dX9_price_32 : decode cX9_price 32 = .ok (.aload 5, 2) := dk_25 5 (dk_at dksX9_price_1 9 rfl rfl)
theorem dX9_price_34 : decode cX9_price 34 = .ok (.getfield 117, 3) := dk_180 0 117 (dk_at dksX9_price_1 11 rfl rfl)
theorem dX9_price_37 : decode cX9_price 37 = .ok (.invokevirtual 113, 3) := dk_182 0 113 (dk_at dksX9_price_1 14 rfl rfl)
theorem dX9_price_40 : decode cX9_price 40 = .ok (.iload_n 2, 1) := dk_28 (dk_at dksX9_price_1 17 rfl rfl)
theorem dX9_price_41 : decode cX9_price 41 = .ok (.if_icmp .ne 27, 3) := dk_160 0 27 (dk_at dksX9_price_1 18 rfl rfl)
theorem dX9_price_44 : decode cX9_price 44 = .ok (.iload_n 1, 1) := dk_27 (dk_at dksX9_price_1 21 rfl rfl)
theorem dX9_price_45 : decode cX9_price 45 = .ok (.aload_n 0, 1) := dk_42 (dk_at dksX9_price_1 22 rfl rfl)
theorem dX9_price_46 : decode cX9_price 46 = .ok (.aload 5, 2) := dk_25 5 (dk_at dksX9_price_2 0 rfl rfl)
theorem dX9_price_48 : decode cX9_price 48 = .ok (.getfield 109, 3) := dk_180 0 109 (dk_at dksX9_price_2 2 rfl rfl)
theorem dX9_price_51 : decode cX9_price 51 = .ok (.invokevirtual 113, 3) := dk_182 0 113 (dk_at dksX9_price_2 5 rfl rfl)
theorem dX9_price_54 : decode cX9_price 54 = .ok (.invokestatic 141, 3) := dk_184 0 141 (dk_at dksX9_price_2 8 rfl rfl)
theorem dX9_price_57 : decode cX9_price 57 = .ok (.ifCond .eq 11, 3) := dk_153 0 11 (dk_at dksX9_price_2 11 rfl rfl)
theorem dX9_price_60 : decode cX9_price 60 = .ok (.iload_n 3, 1) := dk_29 (dk_at dksX9_price_2 14 rfl rfl)
theorem dX9_price_61 : decode cX9_price 61 = .ok (.aload 5, 2) := dk_25 5 (dk_at dksX9_price_2 15 rfl rfl)
theorem dX9_price_63 : decode cX9_price 63 = .ok (.getfield 145, 3) := dk_180 0 145 (dk_at dksX9_price_2 17 rfl rfl)
theorem dX9_price_66 : decode cX9_price 66 = .ok (.iadd, 1) := dk_96 (dk_at dksX9_price_2 20 rfl rfl)
theorem dX9_price_67 : decode cX9_price 67 = .ok (.istore_n 3, 1) := dk_62 (dk_at dksX9_price_2 21 rfl rfl)
theorem dX9_price_68 : decode cX9_price 68 = .ok (.iinc 4 1, 3) := dk_132 4 1 (dk_at dksX9_price_3 0 rfl rfl)
theorem dX9_price_71 : decode cX9_price 71 = .ok (.goto (-66), 3) := dk_167 255 190 (dk_at dksX9_price_3 3 rfl rfl)
theorem dX9_price_74 : decode cX9_price 74 = .ok (.iload_n 3, 1) := dk_29 (dk_at dksX9_price_3 6 rfl rfl)
theorem dX9_price_75 : decode cX9_price 75 = .ok (.ireturn, 1) := dk_172 (dk_at dksX9_price_3 7 rfl rfl)
abbrev cX9_isBroken : ByteArray := prog_12_method_6_code
def yX9_isBroken : MethodName := ⟨RX9, "isBroken", "(LFigureSurvey$Finding;)Z"⟩
def dkwX9_isBroken_2 : List UInt8 := [180, 0, 25, 43, 182, 0, 133, 184, 0, 141, 172]
abbrev dktX9_isBroken_2 : List UInt8 := dkwX9_isBroken_2 ++ []
def dkwX9_isBroken_1 : List UInt8 := [180, 0, 117, 182, 0, 113, 182, 0, 148, 162, 0, 7, 4, 167, 0, 4, 3, 172, 42, 180, 0, 130, 42]
abbrev dktX9_isBroken_1 : List UInt8 := dkwX9_isBroken_1 ++ dktX9_isBroken_2
def dkwX9_isBroken_0 : List UInt8 := [43, 180, 0, 85, 154, 0, 36, 42, 42, 43, 180, 0, 109, 182, 0, 113, 182, 0, 148, 42, 42, 43]
abbrev dktX9_isBroken_0 : List UInt8 := dkwX9_isBroken_0 ++ dktX9_isBroken_1
theorem dksX9_isBroken_0 : cX9_isBroken.data.toList.drop 0 = dktX9_isBroken_0 := by decide +kernel
theorem dksX9_isBroken_1 : cX9_isBroken.data.toList.drop 22 = dktX9_isBroken_1 := dk_seg dksX9_isBroken_0 22 rfl rfl
theorem dksX9_isBroken_2 : cX9_isBroken.data.toList.drop 45 = dktX9_isBroken_2 := dk_seg dksX9_isBroken_1 23 rfl rfl
theorem dX9_isBroken_0 : decode cX9_isBroken 0 = .ok (.aload_n 1, 1) := dk_43 (dk_at dksX9_isBroken_0 0 rfl rfl)
theorem dX9_isBroken_1 : decode cX9_isBroken 1 = .ok (.getfield 85, 3) := dk_180 0 85 (dk_at dksX9_isBroken_0 1 rfl rfl)
theorem dX9_isBroken_4 : decode cX9_isBroken 4 = .ok (.ifCond .ne 36, 3) := dk_154 0 36 (dk_at dksX9_isBroken_0 4 rfl rfl)
theorem dX9_isBroken_7 : decode cX9_isBroken 7 = .ok (.aload_n 0, 1) := dk_42 (dk_at dksX9_isBroken_0 7 rfl rfl)
theorem dX9_isBroken_8 : decode cX9_isBroken 8 = .ok (.aload_n 0, 1) := dk_42 (dk_at dksX9_isBroken_0 8 rfl rfl)
theorem dX9_isBroken_9 : decode cX9_isBroken 9 = .ok (.aload_n 1, 1) := dk_43 (dk_at dksX9_isBroken_0 9 rfl rfl)
theorem dX9_isBroken_10 : decode cX9_isBroken 10 = .ok (.getfield 109, 3) := dk_180 0 109 (dk_at dksX9_isBroken_0 10 rfl rfl)
theorem dX9_isBroken_13 : decode cX9_isBroken 13 = .ok (.invokevirtual 113, 3) := dk_182 0 113 (dk_at dksX9_isBroken_0 13 rfl rfl)
theorem dX9_isBroken_16 : decode cX9_isBroken 16 = .ok (.invokevirtual 148, 3) := dk_182 0 148 (dk_at dksX9_isBroken_0 16 rfl rfl)
theorem dX9_isBroken_19 : decode cX9_isBroken 19 = .ok (.aload_n 0, 1) := dk_42 (dk_at dksX9_isBroken_0 19 rfl rfl)
theorem dX9_isBroken_20 : decode cX9_isBroken 20 = .ok (.aload_n 0, 1) := dk_42 (dk_at dksX9_isBroken_0 20 rfl rfl)
theorem dX9_isBroken_21 : decode cX9_isBroken 21 = .ok (.aload_n 1, 1) := dk_43 (dk_at dksX9_isBroken_0 21 rfl rfl)
theorem dX9_isBroken_22 : decode cX9_isBroken 22 = .ok (.getfield 117, 3) := dk_180 0 117 (dk_at dksX9_isBroken_1 0 rfl rfl)
theorem dX9_isBroken_25 : decode cX9_isBroken 25 = .ok (.invokevirtual 113, 3) := dk_182 0 113 (dk_at dksX9_isBroken_1 3 rfl rfl)
theorem dX9_isBroken_28 : decode cX9_isBroken 28 = .ok (.invokevirtual 148, 3) := dk_182 0 148 (dk_at dksX9_isBroken_1 6 rfl rfl)
theorem dX9_isBroken_31 : decode cX9_isBroken 31 = .ok (.if_icmp .ge 7, 3) := dk_162 0 7 (dk_at dksX9_isBroken_1 9 rfl rfl)
theorem dX9_isBroken_34 : decode cX9_isBroken 34 = .ok (.iconst 1, 1) := dk_4 (dk_at dksX9_isBroken_1 12 rfl rfl)
theorem dX9_isBroken_35 : decode cX9_isBroken 35 = .ok (.goto 4, 3) := dk_167 0 4 (dk_at dksX9_isBroken_1 13 rfl rfl)
theorem dX9_isBroken_38 : decode cX9_isBroken 38 = .ok (.iconst 0, 1) := dk_3 (dk_at dksX9_isBroken_1 16 rfl rfl)
theorem dX9_isBroken_39 : decode cX9_isBroken 39 = .ok (.ireturn, 1) := dk_172 (dk_at dksX9_isBroken_1 17 rfl rfl)
theorem dX9_isBroken_40 : decode cX9_isBroken 40 = .ok (.aload_n 0, 1) := dk_42 (dk_at dksX9_isBroken_1 18 rfl rfl)
theorem dX9_isBroken_41 : decode cX9_isBroken 41 = .ok (.getfield 130, 3) := dk_180 0 130 (dk_at dksX9_isBroken_1 19 rfl rfl)
theorem dX9_isBroken_44 : decode cX9_isBroken 44 = .ok (.aload_n 0, 1) := dk_42 (dk_at dksX9_isBroken_1 22 rfl rfl)
theorem dX9_isBroken_45 : decode cX9_isBroken 45 = .ok (.getfield 25, 3) := dk_180 0 25 (dk_at dksX9_isBroken_2 0 rfl rfl)
theorem dX9_isBroken_48 : decode cX9_isBroken 48 = .ok (.aload_n 1, 1) := dk_43 (dk_at dksX9_isBroken_2 3 rfl rfl)
theorem dX9_isBroken_49 : decode cX9_isBroken 49 = .ok (.invokevirtual 133, 3) := dk_182 0 133 (dk_at dksX9_isBroken_2 4 rfl rfl)
theorem dX9_isBroken_52 : decode cX9_isBroken 52 = .ok (.invokestatic 141, 3) := dk_184 0 141 (dk_at dksX9_isBroken_2 7 rfl rfl)
theorem dX9_isBroken_55 : decode cX9_isBroken 55 = .ok (.ireturn, 1) := dk_172 (dk_at dksX9_isBroken_2 10 rfl rfl)
abbrev cX9_place : ByteArray := prog_12_method_5_code
def yX9_place : MethodName := ⟨RX9, "place", "(I)I"⟩
def dkwX9_place_0 : List UInt8 := [3, 61, 42, 180, 0, 97, 28, 46, 27, 159, 0, 9, 132, 2, 1, 167, 255, 243, 28, 172]
abbrev dktX9_place_0 : List UInt8 := dkwX9_place_0 ++ []
theorem dksX9_place_0 : cX9_place.data.toList.drop 0 = dktX9_place_0 := by decide +kernel
theorem dX9_place_0 : decode cX9_place 0 = .ok (.iconst 0, 1) := dk_3 (dk_at dksX9_place_0 0 rfl rfl)
theorem dX9_place_1 : decode cX9_place 1 = .ok (.istore_n 2, 1) := dk_61 (dk_at dksX9_place_0 1 rfl rfl)
theorem dX9_place_2 : decode cX9_place 2 = .ok (.aload_n 0, 1) := dk_42 (dk_at dksX9_place_0 2 rfl rfl)
theorem dX9_place_3 : decode cX9_place 3 = .ok (.getfield 97, 3) := dk_180 0 97 (dk_at dksX9_place_0 3 rfl rfl)
theorem dX9_place_6 : decode cX9_place 6 = .ok (.iload_n 2, 1) := dk_28 (dk_at dksX9_place_0 6 rfl rfl)
theorem dX9_place_7 : decode cX9_place 7 = .ok (.iaload, 1) := dk_46 (dk_at dksX9_place_0 7 rfl rfl)
theorem dX9_place_8 : decode cX9_place 8 = .ok (.iload_n 1, 1) := dk_27 (dk_at dksX9_place_0 8 rfl rfl)
theorem dX9_place_9 : decode cX9_place 9 = .ok (.if_icmp .eq 9, 3) := dk_159 0 9 (dk_at dksX9_place_0 9 rfl rfl)
theorem dX9_place_12 : decode cX9_place 12 = .ok (.iinc 2 1, 3) := dk_132 2 1 (dk_at dksX9_place_0 12 rfl rfl)
theorem dX9_place_15 : decode cX9_place 15 = .ok (.goto (-13), 3) := dk_167 255 243 (dk_at dksX9_place_0 15 rfl rfl)
theorem dX9_place_18 : decode cX9_place 18 = .ok (.iload_n 2, 1) := dk_28 (dk_at dksX9_place_0 18 rfl rfl)
theorem dX9_place_19 : decode cX9_place 19 = .ok (.ireturn, 1) := dk_172 (dk_at dksX9_place_0 19 rfl rfl)
abbrev cX9_close : ByteArray := prog_12_method_7_code
def yX9_close : MethodName := ⟨RX9, "close", "()V"⟩
def dkwX9_close_3 : List UInt8 := [132, 4, 1, 167, 255, 207, 132, 3, 1, 167, 255, 193, 132, 2, 1, 167, 255, 180, 177]
abbrev dktX9_close_3 : List UInt8 := dkwX9_close_3 ++ []
def dkwX9_close_2 : List UInt8 := [28, 51, 153, 0, 19, 42, 180, 0, 103, 28, 50, 21, 4, 51, 153, 0, 7, 4, 167, 0, 4, 3, 128, 84]
abbrev dktX9_close_2 : List UInt8 := dkwX9_close_2 ++ dktX9_close_3
def dkwX9_close_1 : List UInt8 := [54, 4, 21, 4, 27, 162, 0, 49, 42, 180, 0, 103, 29, 50, 21, 4, 92, 51, 42, 180, 0, 103, 29, 50]
abbrev dktX9_close_1 : List UInt8 := dkwX9_close_1 ++ dktX9_close_2
def dkwX9_close_0 : List UInt8 := [42, 180, 0, 18, 182, 0, 35, 60, 3, 61, 28, 27, 162, 0, 77, 3, 62, 29, 27, 162, 0, 64, 3]
abbrev dktX9_close_0 : List UInt8 := dkwX9_close_0 ++ dktX9_close_1
theorem dksX9_close_0 : cX9_close.data.toList.drop 0 = dktX9_close_0 := by decide +kernel
theorem dksX9_close_1 : cX9_close.data.toList.drop 23 = dktX9_close_1 := dk_seg dksX9_close_0 23 rfl rfl
theorem dksX9_close_2 : cX9_close.data.toList.drop 47 = dktX9_close_2 := dk_seg dksX9_close_1 24 rfl rfl
theorem dksX9_close_3 : cX9_close.data.toList.drop 71 = dktX9_close_3 := dk_seg dksX9_close_2 24 rfl rfl
theorem dX9_close_0 : decode cX9_close 0 = .ok (.aload_n 0, 1) := dk_42 (dk_at dksX9_close_0 0 rfl rfl)
theorem dX9_close_1 : decode cX9_close 1 = .ok (.getfield 18, 3) := dk_180 0 18 (dk_at dksX9_close_0 1 rfl rfl)
theorem dX9_close_4 : decode cX9_close 4 = .ok (.invokevirtual 35, 3) := dk_182 0 35 (dk_at dksX9_close_0 4 rfl rfl)
theorem dX9_close_7 : decode cX9_close 7 = .ok (.istore_n 1, 1) := dk_60 (dk_at dksX9_close_0 7 rfl rfl)
theorem dX9_close_8 : decode cX9_close 8 = .ok (.iconst 0, 1) := dk_3 (dk_at dksX9_close_0 8 rfl rfl)
theorem dX9_close_9 : decode cX9_close 9 = .ok (.istore_n 2, 1) := dk_61 (dk_at dksX9_close_0 9 rfl rfl)
theorem dX9_close_10 : decode cX9_close 10 = .ok (.iload_n 2, 1) := dk_28 (dk_at dksX9_close_0 10 rfl rfl)
theorem dX9_close_11 : decode cX9_close 11 = .ok (.iload_n 1, 1) := dk_27 (dk_at dksX9_close_0 11 rfl rfl)
theorem dX9_close_12 : decode cX9_close 12 = .ok (.if_icmp .ge 77, 3) := dk_162 0 77 (dk_at dksX9_close_0 12 rfl rfl)
theorem dX9_close_15 : decode cX9_close 15 = .ok (.iconst 0, 1) := dk_3 (dk_at dksX9_close_0 15 rfl rfl)
theorem dX9_close_16 : decode cX9_close 16 = .ok (.istore_n 3, 1) := dk_62 (dk_at dksX9_close_0 16 rfl rfl)
theorem dX9_close_17 : decode cX9_close 17 = .ok (.iload_n 3, 1) := dk_29 (dk_at dksX9_close_0 17 rfl rfl)
theorem dX9_close_18 : decode cX9_close 18 = .ok (.iload_n 1, 1) := dk_27 (dk_at dksX9_close_0 18 rfl rfl)
theorem dX9_close_19 : decode cX9_close 19 = .ok (.if_icmp .ge 64, 3) := dk_162 0 64 (dk_at dksX9_close_0 19 rfl rfl)
theorem dX9_close_22 : decode cX9_close 22 = .ok (.iconst 0, 1) := dk_3 (dk_at dksX9_close_0 22 rfl rfl)
theorem dX9_close_23 : decode cX9_close 23 = .ok (.istore 4, 2) := dk_54 4 (dk_at dksX9_close_1 0 rfl rfl)
theorem dX9_close_25 : decode cX9_close 25 = .ok (.iload 4, 2) := dk_21 4 (dk_at dksX9_close_1 2 rfl rfl)
theorem dX9_close_27 : decode cX9_close 27 = .ok (.iload_n 1, 1) := dk_27 (dk_at dksX9_close_1 4 rfl rfl)
theorem dX9_close_28 : decode cX9_close 28 = .ok (.if_icmp .ge 49, 3) := dk_162 0 49 (dk_at dksX9_close_1 5 rfl rfl)
theorem dX9_close_31 : decode cX9_close 31 = .ok (.aload_n 0, 1) := dk_42 (dk_at dksX9_close_1 8 rfl rfl)
theorem dX9_close_32 : decode cX9_close 32 = .ok (.getfield 103, 3) := dk_180 0 103 (dk_at dksX9_close_1 9 rfl rfl)
theorem dX9_close_35 : decode cX9_close 35 = .ok (.iload_n 3, 1) := dk_29 (dk_at dksX9_close_1 12 rfl rfl)
theorem dX9_close_36 : decode cX9_close 36 = .ok (.aaload, 1) := dk_50 (dk_at dksX9_close_1 13 rfl rfl)
theorem dX9_close_37 : decode cX9_close 37 = .ok (.iload 4, 2) := dk_21 4 (dk_at dksX9_close_1 14 rfl rfl)
theorem dX9_close_39 : decode cX9_close 39 = .ok (.dup2, 1) := dk_92 (dk_at dksX9_close_1 16 rfl rfl)
theorem dX9_close_40 : decode cX9_close 40 = .ok (.baload, 1) := dk_51 (dk_at dksX9_close_1 17 rfl rfl)
theorem dX9_close_41 : decode cX9_close 41 = .ok (.aload_n 0, 1) := dk_42 (dk_at dksX9_close_1 18 rfl rfl)
theorem dX9_close_42 : decode cX9_close 42 = .ok (.getfield 103, 3) := dk_180 0 103 (dk_at dksX9_close_1 19 rfl rfl)
theorem dX9_close_45 : decode cX9_close 45 = .ok (.iload_n 3, 1) := dk_29 (dk_at dksX9_close_1 22 rfl rfl)
theorem dX9_close_46 : decode cX9_close 46 = .ok (.aaload, 1) := dk_50 (dk_at dksX9_close_1 23 rfl rfl)
theorem dX9_close_47 : decode cX9_close 47 = .ok (.iload_n 2, 1) := dk_28 (dk_at dksX9_close_2 0 rfl rfl)
theorem dX9_close_48 : decode cX9_close 48 = .ok (.baload, 1) := dk_51 (dk_at dksX9_close_2 1 rfl rfl)
theorem dX9_close_49 : decode cX9_close 49 = .ok (.ifCond .eq 19, 3) := dk_153 0 19 (dk_at dksX9_close_2 2 rfl rfl)
theorem dX9_close_52 : decode cX9_close 52 = .ok (.aload_n 0, 1) := dk_42 (dk_at dksX9_close_2 5 rfl rfl)
theorem dX9_close_53 : decode cX9_close 53 = .ok (.getfield 103, 3) := dk_180 0 103 (dk_at dksX9_close_2 6 rfl rfl)
theorem dX9_close_56 : decode cX9_close 56 = .ok (.iload_n 2, 1) := dk_28 (dk_at dksX9_close_2 9 rfl rfl)
theorem dX9_close_57 : decode cX9_close 57 = .ok (.aaload, 1) := dk_50 (dk_at dksX9_close_2 10 rfl rfl)
theorem dX9_close_58 : decode cX9_close 58 = .ok (.iload 4, 2) := dk_21 4 (dk_at dksX9_close_2 11 rfl rfl)
theorem dX9_close_60 : decode cX9_close 60 = .ok (.baload, 1) := dk_51 (dk_at dksX9_close_2 13 rfl rfl)
theorem dX9_close_61 : decode cX9_close 61 = .ok (.ifCond .eq 7, 3) := dk_153 0 7 (dk_at dksX9_close_2 14 rfl rfl)
theorem dX9_close_64 : decode cX9_close 64 = .ok (.iconst 1, 1) := dk_4 (dk_at dksX9_close_2 17 rfl rfl)
theorem dX9_close_65 : decode cX9_close 65 = .ok (.goto 4, 3) := dk_167 0 4 (dk_at dksX9_close_2 18 rfl rfl)
theorem dX9_close_68 : decode cX9_close 68 = .ok (.iconst 0, 1) := dk_3 (dk_at dksX9_close_2 21 rfl rfl)
theorem dX9_close_69 : decode cX9_close 69 = .ok (.ior, 1) := dk_128 (dk_at dksX9_close_2 22 rfl rfl)
theorem dX9_close_70 : decode cX9_close 70 = .ok (.bastore, 1) := dk_84 (dk_at dksX9_close_2 23 rfl rfl)
theorem dX9_close_71 : decode cX9_close 71 = .ok (.iinc 4 1, 3) := dk_132 4 1 (dk_at dksX9_close_3 0 rfl rfl)
theorem dX9_close_74 : decode cX9_close 74 = .ok (.goto (-49), 3) := dk_167 255 207 (dk_at dksX9_close_3 3 rfl rfl)
theorem dX9_close_77 : decode cX9_close 77 = .ok (.iinc 3 1, 3) := dk_132 3 1 (dk_at dksX9_close_3 6 rfl rfl)
theorem dX9_close_80 : decode cX9_close 80 = .ok (.goto (-63), 3) := dk_167 255 193 (dk_at dksX9_close_3 9 rfl rfl)
theorem dX9_close_83 : decode cX9_close 83 = .ok (.iinc 2 1, 3) := dk_132 2 1 (dk_at dksX9_close_3 12 rfl rfl)
theorem dX9_close_86 : decode cX9_close 86 = .ok (.goto (-76), 3) := dk_167 255 180 (dk_at dksX9_close_3 15 rfl rfl)
theorem dX9_close_89 : decode cX9_close 89 = .ok (.return_, 1) := dk_177 (dk_at dksX9_close_3 18 rfl rfl)
abbrev cX9_clash : ByteArray := prog_12_method_8_code
def yX9_clash : MethodName := ⟨RX9, "clash", "(II)Z"⟩
def dkwX9_clash_4 : List UInt8 := [153, 0, 7, 4, 167, 0, 4, 3, 172]
abbrev dktX9_clash_4 : List UInt8 := dkwX9_clash_4 ++ []
def dkwX9_clash_3 : List UInt8 := [180, 0, 103, 42, 25, 4, 180, 0, 109, 182, 0, 113, 50, 42, 45, 180, 0, 109, 182, 0, 113, 51]
abbrev dktX9_clash_3 : List UInt8 := dkwX9_clash_3 ++ dktX9_clash_4
def dkwX9_clash_2 : List UInt8 := [25, 4, 182, 0, 152, 163, 0, 5, 3, 172, 45, 180, 0, 109, 25, 4, 180, 0, 109, 165, 0, 29, 42]
abbrev dktX9_clash_2 : List UInt8 := dkwX9_clash_2 ++ dktX9_clash_3
def dkwX9_clash_1 : List UInt8 := [58, 4, 45, 180, 0, 85, 4, 160, 0, 24, 25, 4, 180, 0, 85, 4, 159, 0, 15, 45, 182, 0, 152]
abbrev dktX9_clash_1 : List UInt8 := dkwX9_clash_1 ++ dktX9_clash_2
def dkwX9_clash_0 : List UInt8 := [42, 180, 0, 25, 27, 182, 0, 39, 192, 0, 79, 78, 42, 180, 0, 25, 28, 182, 0, 39, 192, 0, 79]
abbrev dktX9_clash_0 : List UInt8 := dkwX9_clash_0 ++ dktX9_clash_1
theorem dksX9_clash_0 : cX9_clash.data.toList.drop 0 = dktX9_clash_0 := by decide +kernel
theorem dksX9_clash_1 : cX9_clash.data.toList.drop 23 = dktX9_clash_1 := dk_seg dksX9_clash_0 23 rfl rfl
theorem dksX9_clash_2 : cX9_clash.data.toList.drop 46 = dktX9_clash_2 := dk_seg dksX9_clash_1 23 rfl rfl
theorem dksX9_clash_3 : cX9_clash.data.toList.drop 69 = dktX9_clash_3 := dk_seg dksX9_clash_2 23 rfl rfl
theorem dksX9_clash_4 : cX9_clash.data.toList.drop 91 = dktX9_clash_4 := dk_seg dksX9_clash_3 22 rfl rfl
theorem dX9_clash_0 : decode cX9_clash 0 = .ok (.aload_n 0, 1) := dk_42 (dk_at dksX9_clash_0 0 rfl rfl)
theorem dX9_clash_1 : decode cX9_clash 1 = .ok (.getfield 25, 3) := dk_180 0 25 (dk_at dksX9_clash_0 1 rfl rfl)
theorem dX9_clash_4 : decode cX9_clash 4 = .ok (.iload_n 1, 1) := dk_27 (dk_at dksX9_clash_0 4 rfl rfl)
theorem dX9_clash_5 : decode cX9_clash 5 = .ok (.invokevirtual 39, 3) := dk_182 0 39 (dk_at dksX9_clash_0 5 rfl rfl)
theorem dX9_clash_8 : decode cX9_clash 8 = .ok (.checkcast 79, 3) := dk_192 0 79 (dk_at dksX9_clash_0 8 rfl rfl)
theorem dX9_clash_11 : decode cX9_clash 11 = .ok (.astore_n 3, 1) := dk_78 (dk_at dksX9_clash_0 11 rfl rfl)
theorem dX9_clash_12 : decode cX9_clash 12 = .ok (.aload_n 0, 1) := dk_42 (dk_at dksX9_clash_0 12 rfl rfl)
theorem dX9_clash_13 : decode cX9_clash 13 = .ok (.getfield 25, 3) := dk_180 0 25 (dk_at dksX9_clash_0 13 rfl rfl)
theorem dX9_clash_16 : decode cX9_clash 16 = .ok (.iload_n 2, 1) := dk_28 (dk_at dksX9_clash_0 16 rfl rfl)
theorem dX9_clash_17 : decode cX9_clash 17 = .ok (.invokevirtual 39, 3) := dk_182 0 39 (dk_at dksX9_clash_0 17 rfl rfl)
theorem dX9_clash_20 : decode cX9_clash 20 = .ok (.checkcast 79, 3) := dk_192 0 79 (dk_at dksX9_clash_0 20 rfl rfl)
theorem dX9_clash_23 : decode cX9_clash 23 = .ok (.astore 4, 2) := dk_58 4 (dk_at dksX9_clash_1 0 rfl rfl)
theorem dX9_clash_25 : decode cX9_clash 25 = .ok (.aload_n 3, 1) := dk_45 (dk_at dksX9_clash_1 2 rfl rfl)
theorem dX9_clash_26 : decode cX9_clash 26 = .ok (.getfield 85, 3) := dk_180 0 85 (dk_at dksX9_clash_1 3 rfl rfl)
theorem dX9_clash_29 : decode cX9_clash 29 = .ok (.iconst 1, 1) := dk_4 (dk_at dksX9_clash_1 6 rfl rfl)
theorem dX9_clash_30 : decode cX9_clash 30 = .ok (.if_icmp .ne 24, 3) := dk_160 0 24 (dk_at dksX9_clash_1 7 rfl rfl)
theorem dX9_clash_33 : decode cX9_clash 33 = .ok (.aload 4, 2) := dk_25 4 (dk_at dksX9_clash_1 10 rfl rfl)
theorem dX9_clash_35 : decode cX9_clash 35 = .ok (.getfield 85, 3) := dk_180 0 85 (dk_at dksX9_clash_1 12 rfl rfl)
theorem dX9_clash_38 : decode cX9_clash 38 = .ok (.iconst 1, 1) := dk_4 (dk_at dksX9_clash_1 15 rfl rfl)
theorem dX9_clash_39 : decode cX9_clash 39 = .ok (.if_icmp .eq 15, 3) := dk_159 0 15 (dk_at dksX9_clash_1 16 rfl rfl)
theorem dX9_clash_42 : decode cX9_clash 42 = .ok (.aload_n 3, 1) := dk_45 (dk_at dksX9_clash_1 19 rfl rfl)
theorem dX9_clash_43 : decode cX9_clash 43 = .ok (.invokevirtual 152, 3) := dk_182 0 152 (dk_at dksX9_clash_1 20 rfl rfl)
theorem dX9_clash_46 : decode cX9_clash 46 = .ok (.aload 4, 2) := dk_25 4 (dk_at dksX9_clash_2 0 rfl rfl)
theorem dX9_clash_48 : decode cX9_clash 48 = .ok (.invokevirtual 152, 3) := dk_182 0 152 (dk_at dksX9_clash_2 2 rfl rfl)
theorem dX9_clash_51 : decode cX9_clash 51 = .ok (.if_icmp .gt 5, 3) := dk_163 0 5 (dk_at dksX9_clash_2 5 rfl rfl)
theorem dX9_clash_54 : decode cX9_clash 54 = .ok (.iconst 0, 1) := dk_3 (dk_at dksX9_clash_2 8 rfl rfl)
theorem dX9_clash_55 : decode cX9_clash 55 = .ok (.ireturn, 1) := dk_172 (dk_at dksX9_clash_2 9 rfl rfl)
theorem dX9_clash_56 : decode cX9_clash 56 = .ok (.aload_n 3, 1) := dk_45 (dk_at dksX9_clash_2 10 rfl rfl)
theorem dX9_clash_57 : decode cX9_clash 57 = .ok (.getfield 109, 3) := dk_180 0 109 (dk_at dksX9_clash_2 11 rfl rfl)
theorem dX9_clash_60 : decode cX9_clash 60 = .ok (.aload 4, 2) := dk_25 4 (dk_at dksX9_clash_2 14 rfl rfl)
theorem dX9_clash_62 : decode cX9_clash 62 = .ok (.getfield 109, 3) := dk_180 0 109 (dk_at dksX9_clash_2 16 rfl rfl)
theorem dX9_clash_65 : decode cX9_clash 65 = .ok (.if_acmp .eq 29, 3) := dk_165 0 29 (dk_at dksX9_clash_2 19 rfl rfl)
theorem dX9_clash_68 : decode cX9_clash 68 = .ok (.aload_n 0, 1) := dk_42 (dk_at dksX9_clash_2 22 rfl rfl)
theorem dX9_clash_69 : decode cX9_clash 69 = .ok (.getfield 103, 3) := dk_180 0 103 (dk_at dksX9_clash_3 0 rfl rfl)
theorem dX9_clash_72 : decode cX9_clash 72 = .ok (.aload_n 0, 1) := dk_42 (dk_at dksX9_clash_3 3 rfl rfl)
theorem dX9_clash_73 : decode cX9_clash 73 = .ok (.aload 4, 2) := dk_25 4 (dk_at dksX9_clash_3 4 rfl rfl)
theorem dX9_clash_75 : decode cX9_clash 75 = .ok (.getfield 109, 3) := dk_180 0 109 (dk_at dksX9_clash_3 6 rfl rfl)
theorem dX9_clash_78 : decode cX9_clash 78 = .ok (.invokevirtual 113, 3) := dk_182 0 113 (dk_at dksX9_clash_3 9 rfl rfl)
theorem dX9_clash_81 : decode cX9_clash 81 = .ok (.aaload, 1) := dk_50 (dk_at dksX9_clash_3 12 rfl rfl)
theorem dX9_clash_82 : decode cX9_clash 82 = .ok (.aload_n 0, 1) := dk_42 (dk_at dksX9_clash_3 13 rfl rfl)
theorem dX9_clash_83 : decode cX9_clash 83 = .ok (.aload_n 3, 1) := dk_45 (dk_at dksX9_clash_3 14 rfl rfl)
theorem dX9_clash_84 : decode cX9_clash 84 = .ok (.getfield 109, 3) := dk_180 0 109 (dk_at dksX9_clash_3 15 rfl rfl)
theorem dX9_clash_87 : decode cX9_clash 87 = .ok (.invokevirtual 113, 3) := dk_182 0 113 (dk_at dksX9_clash_3 18 rfl rfl)
theorem dX9_clash_90 : decode cX9_clash 90 = .ok (.baload, 1) := dk_51 (dk_at dksX9_clash_3 21 rfl rfl)
theorem dX9_clash_91 : decode cX9_clash 91 = .ok (.ifCond .eq 7, 3) := dk_153 0 7 (dk_at dksX9_clash_4 0 rfl rfl)
theorem dX9_clash_94 : decode cX9_clash 94 = .ok (.iconst 1, 1) := dk_4 (dk_at dksX9_clash_4 3 rfl rfl)
theorem dX9_clash_95 : decode cX9_clash 95 = .ok (.goto 4, 3) := dk_167 0 4 (dk_at dksX9_clash_4 4 rfl rfl)
theorem dX9_clash_98 : decode cX9_clash 98 = .ok (.iconst 0, 1) := dk_3 (dk_at dksX9_clash_4 7 rfl rfl)
theorem dX9_clash_99 : decode cX9_clash 99 = .ok (.ireturn, 1) := dk_172 (dk_at dksX9_clash_4 8 rfl rfl)
abbrev cX9_bestBroken : ByteArray := prog_12_method_10_code
def yX9_bestBroken : MethodName := ⟨RX9, "bestBroken", "(LFigureSurvey$Clash;)I"⟩
def dkwX9_bestBroken_7 : List UInt8 := [154, 0, 5, 29, 172, 21, 4, 4, 100, 28, 126, 54, 4, 167, 255, 130]
abbrev dktX9_bestBroken_7 : List UInt8 := dkwX9_bestBroken_7 ++ []
def dkwX9_bestBroken_6 : List UInt8 := [21, 5, 182, 0, 163, 42, 29, 182, 0, 163, 160, 0, 12, 21, 5, 29, 162, 0, 6, 21, 5, 62, 21, 4]
abbrev dktX9_bestBroken_6 : List UInt8 := dkwX9_bestBroken_6 ++ dktX9_bestBroken_7
def dkwX9_bestBroken_5 : List UInt8 := [167, 255, 197, 29, 2, 159, 0, 37, 42, 21, 5, 182, 0, 163, 42, 29, 182, 0, 163, 161, 0, 23, 42]
abbrev dktX9_bestBroken_5 : List UInt8 := dkwX9_bestBroken_5 ++ dktX9_bestBroken_6
def dkwX9_bestBroken_4 : List UInt8 := [186, 0, 155, 0, 0, 184, 0, 159, 158, 0, 12, 21, 5, 4, 21, 6, 120, 128, 54, 5, 132, 6, 1]
abbrev dktX9_bestBroken_4 : List UInt8 := dkwX9_bestBroken_4 ++ dktX9_bestBroken_5
def dkwX9_bestBroken_3 : List UInt8 := [54, 7, 28, 21, 4, 2, 130, 126, 54, 8, 42, 180, 0, 25, 182, 0, 35, 21, 8, 43, 21, 7]
abbrev dktX9_bestBroken_3 : List UInt8 := dkwX9_bestBroken_3 ++ dktX9_bestBroken_4
def dkwX9_bestBroken_2 : List UInt8 := [28, 54, 4, 21, 4, 54, 5, 3, 54, 6, 21, 6, 42, 180, 0, 25, 182, 0, 35, 162, 0, 53, 21, 6]
abbrev dktX9_bestBroken_2 : List UInt8 := dkwX9_bestBroken_2 ++ dktX9_bestBroken_3
def dkwX9_bestBroken_1 : List UInt8 := [192, 0, 79, 180, 0, 85, 4, 160, 0, 9, 28, 4, 29, 120, 128, 61, 132, 3, 1, 167, 255, 218, 2, 62]
abbrev dktX9_bestBroken_1 : List UInt8 := dkwX9_bestBroken_1 ++ dktX9_bestBroken_2
def dkwX9_bestBroken_0 : List UInt8 := [3, 61, 3, 62, 29, 42, 180, 0, 25, 182, 0, 35, 162, 0, 33, 42, 180, 0, 25, 29, 182, 0, 39]
abbrev dktX9_bestBroken_0 : List UInt8 := dkwX9_bestBroken_0 ++ dktX9_bestBroken_1
theorem dksX9_bestBroken_0 : cX9_bestBroken.data.toList.drop 0 = dktX9_bestBroken_0 := by decide +kernel
theorem dksX9_bestBroken_1 : cX9_bestBroken.data.toList.drop 23 = dktX9_bestBroken_1 := dk_seg dksX9_bestBroken_0 23 rfl rfl
theorem dksX9_bestBroken_2 : cX9_bestBroken.data.toList.drop 47 = dktX9_bestBroken_2 := dk_seg dksX9_bestBroken_1 24 rfl rfl
theorem dksX9_bestBroken_3 : cX9_bestBroken.data.toList.drop 71 = dktX9_bestBroken_3 := dk_seg dksX9_bestBroken_2 24 rfl rfl
theorem dksX9_bestBroken_4 : cX9_bestBroken.data.toList.drop 93 = dktX9_bestBroken_4 := dk_seg dksX9_bestBroken_3 22 rfl rfl
theorem dksX9_bestBroken_5 : cX9_bestBroken.data.toList.drop 116 = dktX9_bestBroken_5 := dk_seg dksX9_bestBroken_4 23 rfl rfl
theorem dksX9_bestBroken_6 : cX9_bestBroken.data.toList.drop 139 = dktX9_bestBroken_6 := dk_seg dksX9_bestBroken_5 23 rfl rfl
theorem dksX9_bestBroken_7 : cX9_bestBroken.data.toList.drop 163 = dktX9_bestBroken_7 := dk_seg dksX9_bestBroken_6 24 rfl rfl
theorem dX9_bestBroken_0 : decode cX9_bestBroken 0 = .ok (.iconst 0, 1) := dk_3 (dk_at dksX9_bestBroken_0 0 rfl rfl)
theorem dX9_bestBroken_1 : decode cX9_bestBroken 1 = .ok (.istore_n 2, 1) := dk_61 (dk_at dksX9_bestBroken_0 1 rfl rfl)
theorem dX9_bestBroken_2 : decode cX9_bestBroken 2 = .ok (.iconst 0, 1) := dk_3 (dk_at dksX9_bestBroken_0 2 rfl rfl)
theorem dX9_bestBroken_3 : decode cX9_bestBroken 3 = .ok (.istore_n 3, 1) := dk_62 (dk_at dksX9_bestBroken_0 3 rfl rfl)
theorem dX9_bestBroken_4 : decode cX9_bestBroken 4 = .ok (.iload_n 3, 1) := dk_29 (dk_at dksX9_bestBroken_0 4 rfl rfl)
theorem dX9_bestBroken_5 : decode cX9_bestBroken 5 = .ok (.aload_n 0, 1) := dk_42 (dk_at dksX9_bestBroken_0 5 rfl rfl)
theorem dX9_bestBroken_6 : decode cX9_bestBroken 6 = .ok (.getfield 25, 3) := dk_180 0 25 (dk_at dksX9_bestBroken_0 6 rfl rfl)
theorem dX9_bestBroken_9 : decode cX9_bestBroken 9 = .ok (.invokevirtual 35, 3) := dk_182 0 35 (dk_at dksX9_bestBroken_0 9 rfl rfl)
theorem dX9_bestBroken_12 : decode cX9_bestBroken 12 = .ok (.if_icmp .ge 33, 3) := dk_162 0 33 (dk_at dksX9_bestBroken_0 12 rfl rfl)
theorem dX9_bestBroken_15 : decode cX9_bestBroken 15 = .ok (.aload_n 0, 1) := dk_42 (dk_at dksX9_bestBroken_0 15 rfl rfl)
theorem dX9_bestBroken_16 : decode cX9_bestBroken 16 = .ok (.getfield 25, 3) := dk_180 0 25 (dk_at dksX9_bestBroken_0 16 rfl rfl)
theorem dX9_bestBroken_19 : decode cX9_bestBroken 19 = .ok (.iload_n 3, 1) := dk_29 (dk_at dksX9_bestBroken_0 19 rfl rfl)
theorem dX9_bestBroken_20 : decode cX9_bestBroken 20 = .ok (.invokevirtual 39, 3) := dk_182 0 39 (dk_at dksX9_bestBroken_0 20 rfl rfl)
theorem dX9_bestBroken_23 : decode cX9_bestBroken 23 = .ok (.checkcast 79, 3) := dk_192 0 79 (dk_at dksX9_bestBroken_1 0 rfl rfl)
theorem dX9_bestBroken_26 : decode cX9_bestBroken 26 = .ok (.getfield 85, 3) := dk_180 0 85 (dk_at dksX9_bestBroken_1 3 rfl rfl)
theorem dX9_bestBroken_29 : decode cX9_bestBroken 29 = .ok (.iconst 1, 1) := dk_4 (dk_at dksX9_bestBroken_1 6 rfl rfl)
theorem dX9_bestBroken_30 : decode cX9_bestBroken 30 = .ok (.if_icmp .ne 9, 3) := dk_160 0 9 (dk_at dksX9_bestBroken_1 7 rfl rfl)
theorem dX9_bestBroken_33 : decode cX9_bestBroken 33 = .ok (.iload_n 2, 1) := dk_28 (dk_at dksX9_bestBroken_1 10 rfl rfl)
theorem dX9_bestBroken_34 : decode cX9_bestBroken 34 = .ok (.iconst 1, 1) := dk_4 (dk_at dksX9_bestBroken_1 11 rfl rfl)
theorem dX9_bestBroken_35 : decode cX9_bestBroken 35 = .ok (.iload_n 3, 1) := dk_29 (dk_at dksX9_bestBroken_1 12 rfl rfl)
theorem dX9_bestBroken_36 : decode cX9_bestBroken 36 = .ok (.ishl, 1) := dk_120 (dk_at dksX9_bestBroken_1 13 rfl rfl)
theorem dX9_bestBroken_37 : decode cX9_bestBroken 37 = .ok (.ior, 1) := dk_128 (dk_at dksX9_bestBroken_1 14 rfl rfl)
theorem dX9_bestBroken_38 : decode cX9_bestBroken 38 = .ok (.istore_n 2, 1) := dk_61 (dk_at dksX9_bestBroken_1 15 rfl rfl)
theorem dX9_bestBroken_39 : decode cX9_bestBroken 39 = .ok (.iinc 3 1, 3) := dk_132 3 1 (dk_at dksX9_bestBroken_1 16 rfl rfl)
theorem dX9_bestBroken_42 : decode cX9_bestBroken 42 = .ok (.goto (-38), 3) := dk_167 255 218 (dk_at dksX9_bestBroken_1 19 rfl rfl)
theorem dX9_bestBroken_45 : decode cX9_bestBroken 45 = .ok (.iconst (-1), 1) := dk_2 (dk_at dksX9_bestBroken_1 22 rfl rfl)
theorem dX9_bestBroken_46 : decode cX9_bestBroken 46 = .ok (.istore_n 3, 1) := dk_62 (dk_at dksX9_bestBroken_1 23 rfl rfl)
theorem dX9_bestBroken_47 : decode cX9_bestBroken 47 = .ok (.iload_n 2, 1) := dk_28 (dk_at dksX9_bestBroken_2 0 rfl rfl)
theorem dX9_bestBroken_48 : decode cX9_bestBroken 48 = .ok (.istore 4, 2) := dk_54 4 (dk_at dksX9_bestBroken_2 1 rfl rfl)
theorem dX9_bestBroken_50 : decode cX9_bestBroken 50 = .ok (.iload 4, 2) := dk_21 4 (dk_at dksX9_bestBroken_2 3 rfl rfl)
theorem dX9_bestBroken_52 : decode cX9_bestBroken 52 = .ok (.istore 5, 2) := dk_54 5 (dk_at dksX9_bestBroken_2 5 rfl rfl)
theorem dX9_bestBroken_54 : decode cX9_bestBroken 54 = .ok (.iconst 0, 1) := dk_3 (dk_at dksX9_bestBroken_2 7 rfl rfl)
theorem dX9_bestBroken_55 : decode cX9_bestBroken 55 = .ok (.istore 6, 2) := dk_54 6 (dk_at dksX9_bestBroken_2 8 rfl rfl)
theorem dX9_bestBroken_57 : decode cX9_bestBroken 57 = .ok (.iload 6, 2) := dk_21 6 (dk_at dksX9_bestBroken_2 10 rfl rfl)
theorem dX9_bestBroken_59 : decode cX9_bestBroken 59 = .ok (.aload_n 0, 1) := dk_42 (dk_at dksX9_bestBroken_2 12 rfl rfl)
theorem dX9_bestBroken_60 : decode cX9_bestBroken 60 = .ok (.getfield 25, 3) := dk_180 0 25 (dk_at dksX9_bestBroken_2 13 rfl rfl)
theorem dX9_bestBroken_63 : decode cX9_bestBroken 63 = .ok (.invokevirtual 35, 3) := dk_182 0 35 (dk_at dksX9_bestBroken_2 16 rfl rfl)
theorem dX9_bestBroken_66 : decode cX9_bestBroken 66 = .ok (.if_icmp .ge 53, 3) := dk_162 0 53 (dk_at dksX9_bestBroken_2 19 rfl rfl)
theorem dX9_bestBroken_69 : decode cX9_bestBroken 69 = .ok (.iload 6, 2) := dk_21 6 (dk_at dksX9_bestBroken_2 22 rfl rfl)
theorem dX9_bestBroken_71 : decode cX9_bestBroken 71 = .ok (.istore 7, 2) := dk_54 7 (dk_at dksX9_bestBroken_3 0 rfl rfl)
theorem dX9_bestBroken_73 : decode cX9_bestBroken 73 = .ok (.iload_n 2, 1) := dk_28 (dk_at dksX9_bestBroken_3 2 rfl rfl)
theorem dX9_bestBroken_74 : decode cX9_bestBroken 74 = .ok (.iload 4, 2) := dk_21 4 (dk_at dksX9_bestBroken_3 3 rfl rfl)
theorem dX9_bestBroken_76 : decode cX9_bestBroken 76 = .ok (.iconst (-1), 1) := dk_2 (dk_at dksX9_bestBroken_3 5 rfl rfl)
theorem dX9_bestBroken_77 : decode cX9_bestBroken 77 = .ok (.ixor, 1) := dk_130 (dk_at dksX9_bestBroken_3 6 rfl rfl)
theorem dX9_bestBroken_78 : decode cX9_bestBroken 78 = .ok (.iand, 1) := dk_126 (dk_at dksX9_bestBroken_3 7 rfl rfl)
theorem dX9_bestBroken_79 : decode cX9_bestBroken 79 = .ok (.istore 8, 2) := dk_54 8 (dk_at dksX9_bestBroken_3 8 rfl rfl)
theorem dX9_bestBroken_81 : decode cX9_bestBroken 81 = .ok (.aload_n 0, 1) := dk_42 (dk_at dksX9_bestBroken_3 10 rfl rfl)
theorem dX9_bestBroken_82 : decode cX9_bestBroken 82 = .ok (.getfield 25, 3) := dk_180 0 25 (dk_at dksX9_bestBroken_3 11 rfl rfl)
theorem dX9_bestBroken_85 : decode cX9_bestBroken 85 = .ok (.invokevirtual 35, 3) := dk_182 0 35 (dk_at dksX9_bestBroken_3 14 rfl rfl)
theorem dX9_bestBroken_88 : decode cX9_bestBroken 88 = .ok (.iload 8, 2) := dk_21 8 (dk_at dksX9_bestBroken_3 17 rfl rfl)
theorem dX9_bestBroken_90 : decode cX9_bestBroken 90 = .ok (.aload_n 1, 1) := dk_43 (dk_at dksX9_bestBroken_3 19 rfl rfl)
theorem dX9_bestBroken_91 : decode cX9_bestBroken 91 = .ok (.iload 7, 2) := dk_21 7 (dk_at dksX9_bestBroken_3 20 rfl rfl)
theorem dX9_bestBroken_93 : decode cX9_bestBroken 93 = .ok (.invokedynamic 155, 5) := by decide +kernel
theorem dX9_bestBroken_98 : decode cX9_bestBroken 98 = .ok (.invokestatic 159, 3) := dk_184 0 159 (dk_at dksX9_bestBroken_4 5 rfl rfl)
theorem dX9_bestBroken_101 : decode cX9_bestBroken 101 = .ok (.ifCond .le 12, 3) := dk_158 0 12 (dk_at dksX9_bestBroken_4 8 rfl rfl)
theorem dX9_bestBroken_104 : decode cX9_bestBroken 104 = .ok (.iload 5, 2) := dk_21 5 (dk_at dksX9_bestBroken_4 11 rfl rfl)
theorem dX9_bestBroken_106 : decode cX9_bestBroken 106 = .ok (.iconst 1, 1) := dk_4 (dk_at dksX9_bestBroken_4 13 rfl rfl)
theorem dX9_bestBroken_107 : decode cX9_bestBroken 107 = .ok (.iload 6, 2) := dk_21 6 (dk_at dksX9_bestBroken_4 14 rfl rfl)
theorem dX9_bestBroken_109 : decode cX9_bestBroken 109 = .ok (.ishl, 1) := dk_120 (dk_at dksX9_bestBroken_4 16 rfl rfl)
theorem dX9_bestBroken_110 : decode cX9_bestBroken 110 = .ok (.ior, 1) := dk_128 (dk_at dksX9_bestBroken_4 17 rfl rfl)
theorem dX9_bestBroken_111 : decode cX9_bestBroken 111 = .ok (.istore 5, 2) := dk_54 5 (dk_at dksX9_bestBroken_4 18 rfl rfl)
theorem dX9_bestBroken_113 : decode cX9_bestBroken 113 = .ok (.iinc 6 1, 3) := dk_132 6 1 (dk_at dksX9_bestBroken_4 20 rfl rfl)
theorem dX9_bestBroken_116 : decode cX9_bestBroken 116 = .ok (.goto (-59), 3) := dk_167 255 197 (dk_at dksX9_bestBroken_5 0 rfl rfl)
theorem dX9_bestBroken_119 : decode cX9_bestBroken 119 = .ok (.iload_n 3, 1) := dk_29 (dk_at dksX9_bestBroken_5 3 rfl rfl)
theorem dX9_bestBroken_120 : decode cX9_bestBroken 120 = .ok (.iconst (-1), 1) := dk_2 (dk_at dksX9_bestBroken_5 4 rfl rfl)
theorem dX9_bestBroken_121 : decode cX9_bestBroken 121 = .ok (.if_icmp .eq 37, 3) := dk_159 0 37 (dk_at dksX9_bestBroken_5 5 rfl rfl)
theorem dX9_bestBroken_124 : decode cX9_bestBroken 124 = .ok (.aload_n 0, 1) := dk_42 (dk_at dksX9_bestBroken_5 8 rfl rfl)
theorem dX9_bestBroken_125 : decode cX9_bestBroken 125 = .ok (.iload 5, 2) := dk_21 5 (dk_at dksX9_bestBroken_5 9 rfl rfl)
theorem dX9_bestBroken_127 : decode cX9_bestBroken 127 = .ok (.invokevirtual 163, 3) := dk_182 0 163 (dk_at dksX9_bestBroken_5 11 rfl rfl)
theorem dX9_bestBroken_130 : decode cX9_bestBroken 130 = .ok (.aload_n 0, 1) := dk_42 (dk_at dksX9_bestBroken_5 14 rfl rfl)
theorem dX9_bestBroken_131 : decode cX9_bestBroken 131 = .ok (.iload_n 3, 1) := dk_29 (dk_at dksX9_bestBroken_5 15 rfl rfl)
theorem dX9_bestBroken_132 : decode cX9_bestBroken 132 = .ok (.invokevirtual 163, 3) := dk_182 0 163 (dk_at dksX9_bestBroken_5 16 rfl rfl)
theorem dX9_bestBroken_135 : decode cX9_bestBroken 135 = .ok (.if_icmp .lt 23, 3) := dk_161 0 23 (dk_at dksX9_bestBroken_5 19 rfl rfl)
theorem dX9_bestBroken_138 : decode cX9_bestBroken 138 = .ok (.aload_n 0, 1) := dk_42 (dk_at dksX9_bestBroken_5 22 rfl rfl)
theorem dX9_bestBroken_139 : decode cX9_bestBroken 139 = .ok (.iload 5, 2) := dk_21 5 (dk_at dksX9_bestBroken_6 0 rfl rfl)
theorem dX9_bestBroken_141 : decode cX9_bestBroken 141 = .ok (.invokevirtual 163, 3) := dk_182 0 163 (dk_at dksX9_bestBroken_6 2 rfl rfl)
theorem dX9_bestBroken_144 : decode cX9_bestBroken 144 = .ok (.aload_n 0, 1) := dk_42 (dk_at dksX9_bestBroken_6 5 rfl rfl)
theorem dX9_bestBroken_145 : decode cX9_bestBroken 145 = .ok (.iload_n 3, 1) := dk_29 (dk_at dksX9_bestBroken_6 6 rfl rfl)
theorem dX9_bestBroken_146 : decode cX9_bestBroken 146 = .ok (.invokevirtual 163, 3) := dk_182 0 163 (dk_at dksX9_bestBroken_6 7 rfl rfl)
theorem dX9_bestBroken_149 : decode cX9_bestBroken 149 = .ok (.if_icmp .ne 12, 3) := dk_160 0 12 (dk_at dksX9_bestBroken_6 10 rfl rfl)
theorem dX9_bestBroken_152 : decode cX9_bestBroken 152 = .ok (.iload 5, 2) := dk_21 5 (dk_at dksX9_bestBroken_6 13 rfl rfl)
theorem dX9_bestBroken_154 : decode cX9_bestBroken 154 = .ok (.iload_n 3, 1) := dk_29 (dk_at dksX9_bestBroken_6 15 rfl rfl)
theorem dX9_bestBroken_155 : decode cX9_bestBroken 155 = .ok (.if_icmp .ge 6, 3) := dk_162 0 6 (dk_at dksX9_bestBroken_6 16 rfl rfl)
theorem dX9_bestBroken_158 : decode cX9_bestBroken 158 = .ok (.iload 5, 2) := dk_21 5 (dk_at dksX9_bestBroken_6 19 rfl rfl)
theorem dX9_bestBroken_160 : decode cX9_bestBroken 160 = .ok (.istore_n 3, 1) := dk_62 (dk_at dksX9_bestBroken_6 21 rfl rfl)
theorem dX9_bestBroken_161 : decode cX9_bestBroken 161 = .ok (.iload 4, 2) := dk_21 4 (dk_at dksX9_bestBroken_6 22 rfl rfl)
theorem dX9_bestBroken_163 : decode cX9_bestBroken 163 = .ok (.ifCond .ne 5, 3) := dk_154 0 5 (dk_at dksX9_bestBroken_7 0 rfl rfl)
theorem dX9_bestBroken_166 : decode cX9_bestBroken 166 = .ok (.iload_n 3, 1) := dk_29 (dk_at dksX9_bestBroken_7 3 rfl rfl)
theorem dX9_bestBroken_167 : decode cX9_bestBroken 167 = .ok (.ireturn, 1) := dk_172 (dk_at dksX9_bestBroken_7 4 rfl rfl)
theorem dX9_bestBroken_168 : decode cX9_bestBroken 168 = .ok (.iload 4, 2) := dk_21 4 (dk_at dksX9_bestBroken_7 5 rfl rfl)
theorem dX9_bestBroken_170 : decode cX9_bestBroken 170 = .ok (.iconst 1, 1) := dk_4 (dk_at dksX9_bestBroken_7 7 rfl rfl)
theorem dX9_bestBroken_171 : decode cX9_bestBroken 171 = .ok (.isub, 1) := dk_100 (dk_at dksX9_bestBroken_7 8 rfl rfl)
theorem dX9_bestBroken_172 : decode cX9_bestBroken 172 = .ok (.iload_n 2, 1) := dk_28 (dk_at dksX9_bestBroken_7 9 rfl rfl)
theorem dX9_bestBroken_173 : decode cX9_bestBroken 173 = .ok (.iand, 1) := dk_126 (dk_at dksX9_bestBroken_7 10 rfl rfl)
theorem dX9_bestBroken_174 : decode cX9_bestBroken 174 = .ok (.istore 4, 2) := dk_54 4 (dk_at dksX9_bestBroken_7 11 rfl rfl)
theorem dX9_bestBroken_176 : decode cX9_bestBroken 176 = .ok (.goto (-126), 3) := dk_167 255 130 (dk_at dksX9_bestBroken_7 13 rfl rfl)
abbrev cX9_lambda_bestBroken_0 : ByteArray := prog_12_method_19_code
def yX9_lambda_bestBroken_0 : MethodName := ⟨RX9, "lambda$bestBroken$0", "(ILFigureSurvey$Clash;II)Z"⟩
def dkwX9_lambda_bestBroken_0_1 : List UInt8 := [172]
abbrev dktX9_lambda_bestBroken_0_1 : List UInt8 := dkwX9_lambda_bestBroken_0_1 ++ []
def dkwX9_lambda_bestBroken_0_0 : List UInt8 := [26, 29, 184, 0, 141, 153, 0, 18, 43, 29, 28, 185, 0, 228, 3, 0, 153, 0, 7, 4, 167, 0, 4, 3]
abbrev dktX9_lambda_bestBroken_0_0 : List UInt8 := dkwX9_lambda_bestBroken_0_0 ++ dktX9_lambda_bestBroken_0_1
theorem dksX9_lambda_bestBroken_0_0 : cX9_lambda_bestBroken_0.data.toList.drop 0 = dktX9_lambda_bestBroken_0_0 := by decide +kernel
theorem dksX9_lambda_bestBroken_0_1 : cX9_lambda_bestBroken_0.data.toList.drop 24 = dktX9_lambda_bestBroken_0_1 := dk_seg dksX9_lambda_bestBroken_0_0 24 rfl rfl
theorem dX9_lambda_bestBroken_0_0 : decode cX9_lambda_bestBroken_0 0 = .ok (.iload_n 0, 1) := dk_26 (dk_at dksX9_lambda_bestBroken_0_0 0 rfl rfl)
theorem dX9_lambda_bestBroken_0_1 : decode cX9_lambda_bestBroken_0 1 = .ok (.iload_n 3, 1) := dk_29 (dk_at dksX9_lambda_bestBroken_0_0 1 rfl rfl)
theorem dX9_lambda_bestBroken_0_2 : decode cX9_lambda_bestBroken_0 2 = .ok (.invokestatic 141, 3) := dk_184 0 141 (dk_at dksX9_lambda_bestBroken_0_0 2 rfl rfl)
theorem dX9_lambda_bestBroken_0_5 : decode cX9_lambda_bestBroken_0 5 = .ok (.ifCond .eq 18, 3) := dk_153 0 18 (dk_at dksX9_lambda_bestBroken_0_0 5 rfl rfl)
theorem dX9_lambda_bestBroken_0_8 : decode cX9_lambda_bestBroken_0 8 = .ok (.aload_n 1, 1) := dk_43 (dk_at dksX9_lambda_bestBroken_0_0 8 rfl rfl)
theorem dX9_lambda_bestBroken_0_9 : decode cX9_lambda_bestBroken_0 9 = .ok (.iload_n 3, 1) := dk_29 (dk_at dksX9_lambda_bestBroken_0_0 9 rfl rfl)
theorem dX9_lambda_bestBroken_0_10 : decode cX9_lambda_bestBroken_0 10 = .ok (.iload_n 2, 1) := dk_28 (dk_at dksX9_lambda_bestBroken_0_0 10 rfl rfl)
theorem dX9_lambda_bestBroken_0_11 : decode cX9_lambda_bestBroken_0 11 = .ok (.invokeinterface 228 3, 5) := by decide +kernel
theorem dX9_lambda_bestBroken_0_16 : decode cX9_lambda_bestBroken_0 16 = .ok (.ifCond .eq 7, 3) := dk_153 0 7 (dk_at dksX9_lambda_bestBroken_0_0 16 rfl rfl)
theorem dX9_lambda_bestBroken_0_19 : decode cX9_lambda_bestBroken_0 19 = .ok (.iconst 1, 1) := dk_4 (dk_at dksX9_lambda_bestBroken_0_0 19 rfl rfl)
theorem dX9_lambda_bestBroken_0_20 : decode cX9_lambda_bestBroken_0 20 = .ok (.goto 4, 3) := dk_167 0 4 (dk_at dksX9_lambda_bestBroken_0_0 20 rfl rfl)
theorem dX9_lambda_bestBroken_0_23 : decode cX9_lambda_bestBroken_0 23 = .ok (.iconst 0, 1) := dk_3 (dk_at dksX9_lambda_bestBroken_0_0 23 rfl rfl)
theorem dX9_lambda_bestBroken_0_24 : decode cX9_lambda_bestBroken_0 24 = .ok (.ireturn, 1) := dk_172 (dk_at dksX9_lambda_bestBroken_0_1 0 rfl rfl)
abbrev cX9_weight : ByteArray := prog_12_method_9_code
def yX9_weight : MethodName := ⟨RX9, "weight", "(I)I"⟩
def dkwX9_weight_1 : List UInt8 := [42, 180, 0, 25, 29, 182, 0, 39, 192, 0, 79, 180, 0, 145, 96, 61, 132, 3, 1, 167, 255, 217, 28, 172]
abbrev dktX9_weight_1 : List UInt8 := dkwX9_weight_1 ++ []
def dkwX9_weight_0 : List UInt8 := [3, 61, 3, 62, 29, 42, 180, 0, 25, 182, 0, 35, 162, 0, 34, 27, 29, 184, 0, 141, 153, 0, 20, 28]
abbrev dktX9_weight_0 : List UInt8 := dkwX9_weight_0 ++ dktX9_weight_1
theorem dksX9_weight_0 : cX9_weight.data.toList.drop 0 = dktX9_weight_0 := by decide +kernel
theorem dksX9_weight_1 : cX9_weight.data.toList.drop 24 = dktX9_weight_1 := dk_seg dksX9_weight_0 24 rfl rfl
theorem dX9_weight_0 : decode cX9_weight 0 = .ok (.iconst 0, 1) := dk_3 (dk_at dksX9_weight_0 0 rfl rfl)
theorem dX9_weight_1 : decode cX9_weight 1 = .ok (.istore_n 2, 1) := dk_61 (dk_at dksX9_weight_0 1 rfl rfl)
theorem dX9_weight_2 : decode cX9_weight 2 = .ok (.iconst 0, 1) := dk_3 (dk_at dksX9_weight_0 2 rfl rfl)
theorem dX9_weight_3 : decode cX9_weight 3 = .ok (.istore_n 3, 1) := dk_62 (dk_at dksX9_weight_0 3 rfl rfl)
theorem dX9_weight_4 : decode cX9_weight 4 = .ok (.iload_n 3, 1) := dk_29 (dk_at dksX9_weight_0 4 rfl rfl)
theorem dX9_weight_5 : decode cX9_weight 5 = .ok (.aload_n 0, 1) := dk_42 (dk_at dksX9_weight_0 5 rfl rfl)
theorem dX9_weight_6 : decode cX9_weight 6 = .ok (.getfield 25, 3) := dk_180 0 25 (dk_at dksX9_weight_0 6 rfl rfl)
theorem dX9_weight_9 : decode cX9_weight 9 = .ok (.invokevirtual 35, 3) := dk_182 0 35 (dk_at dksX9_weight_0 9 rfl rfl)
theorem dX9_weight_12 : decode cX9_weight 12 = .ok (.if_icmp .ge 34, 3) := dk_162 0 34 (dk_at dksX9_weight_0 12 rfl rfl)
theorem dX9_weight_15 : decode cX9_weight 15 = .ok (.iload_n 1, 1) := dk_27 (dk_at dksX9_weight_0 15 rfl rfl)
theorem dX9_weight_16 : decode cX9_weight 16 = .ok (.iload_n 3, 1) := dk_29 (dk_at dksX9_weight_0 16 rfl rfl)
theorem dX9_weight_17 : decode cX9_weight 17 = .ok (.invokestatic 141, 3) := dk_184 0 141 (dk_at dksX9_weight_0 17 rfl rfl)
theorem dX9_weight_20 : decode cX9_weight 20 = .ok (.ifCond .eq 20, 3) := dk_153 0 20 (dk_at dksX9_weight_0 20 rfl rfl)
theorem dX9_weight_23 : decode cX9_weight 23 = .ok (.iload_n 2, 1) := dk_28 (dk_at dksX9_weight_0 23 rfl rfl)
theorem dX9_weight_24 : decode cX9_weight 24 = .ok (.aload_n 0, 1) := dk_42 (dk_at dksX9_weight_1 0 rfl rfl)
theorem dX9_weight_25 : decode cX9_weight 25 = .ok (.getfield 25, 3) := dk_180 0 25 (dk_at dksX9_weight_1 1 rfl rfl)
theorem dX9_weight_28 : decode cX9_weight 28 = .ok (.iload_n 3, 1) := dk_29 (dk_at dksX9_weight_1 4 rfl rfl)
theorem dX9_weight_29 : decode cX9_weight 29 = .ok (.invokevirtual 39, 3) := dk_182 0 39 (dk_at dksX9_weight_1 5 rfl rfl)
theorem dX9_weight_32 : decode cX9_weight 32 = .ok (.checkcast 79, 3) := dk_192 0 79 (dk_at dksX9_weight_1 8 rfl rfl)
theorem dX9_weight_35 : decode cX9_weight 35 = .ok (.getfield 145, 3) := dk_180 0 145 (dk_at dksX9_weight_1 11 rfl rfl)
theorem dX9_weight_38 : decode cX9_weight 38 = .ok (.iadd, 1) := dk_96 (dk_at dksX9_weight_1 14 rfl rfl)
theorem dX9_weight_39 : decode cX9_weight 39 = .ok (.istore_n 2, 1) := dk_61 (dk_at dksX9_weight_1 15 rfl rfl)
theorem dX9_weight_40 : decode cX9_weight 40 = .ok (.iinc 3 1, 3) := dk_132 3 1 (dk_at dksX9_weight_1 16 rfl rfl)
theorem dX9_weight_43 : decode cX9_weight 43 = .ok (.goto (-39), 3) := dk_167 255 217 (dk_at dksX9_weight_1 19 rfl rfl)
theorem dX9_weight_46 : decode cX9_weight 46 = .ok (.iload_n 2, 1) := dk_28 (dk_at dksX9_weight_1 22 rfl rfl)
theorem dX9_weight_47 : decode cX9_weight 47 = .ok (.ireturn, 1) := dk_172 (dk_at dksX9_weight_1 23 rfl rfl)
abbrev cX9_isOther : ByteArray := prog_12_method_18_code
def yX9_isOther : MethodName := ⟨RX9, "isOther", "()Z"⟩
def dkwX9_isOther_6 : List UInt8 := [159, 0, 7, 4, 167, 0, 4, 3, 172]
abbrev dktX9_isOther_6 : List UInt8 := dkwX9_isOther_6 ++ []
def dkwX9_isOther_5 : List UInt8 := [29, 42, 180, 0, 130, 160, 0, 21, 42, 44, 182, 0, 204, 42, 29, 182, 0, 163, 96, 42, 182, 0, 225]
abbrev dktX9_isOther_5 : List UInt8 := dkwX9_isOther_5 ++ dktX9_isOther_6
def dkwX9_isOther_4 : List UInt8 := [182, 0, 163, 162, 0, 15, 42, 21, 4, 182, 0, 221, 153, 0, 6, 21, 4, 62, 132, 4, 1, 167, 255, 208]
abbrev dktX9_isOther_4 : List UInt8 := dkwX9_isOther_4 ++ dktX9_isOther_5
def dkwX9_isOther_3 : List UInt8 := [42, 180, 0, 25, 182, 0, 35, 120, 162, 0, 40, 29, 2, 159, 0, 17, 42, 21, 4, 182, 0, 163, 42, 29]
abbrev dktX9_isOther_3 : List UInt8 := dkwX9_isOther_3 ++ dktX9_isOther_4
def dkwX9_isOther_2 : List UInt8 := [180, 0, 97, 29, 46, 159, 0, 5, 4, 172, 132, 3, 1, 167, 255, 234, 2, 62, 3, 54, 4, 21, 4, 4]
abbrev dktX9_isOther_2 : List UInt8 := dkwX9_isOther_2 ++ dktX9_isOther_3
def dkwX9_isOther_1 : List UInt8 := [3, 2, 79, 42, 27, 188, 10, 3, 3, 44, 182, 0, 214, 3, 62, 29, 27, 162, 0, 23, 44, 29, 46, 42]
abbrev dktX9_isOther_1 : List UInt8 := dkwX9_isOther_1 ++ dktX9_isOther_2
def dkwX9_isOther_0 : List UInt8 := [42, 180, 0, 18, 182, 0, 35, 60, 27, 8, 163, 0, 7, 27, 154, 0, 5, 3, 172, 27, 188, 10, 77, 44]
abbrev dktX9_isOther_0 : List UInt8 := dkwX9_isOther_0 ++ dktX9_isOther_1
theorem dksX9_isOther_0 : cX9_isOther.data.toList.drop 0 = dktX9_isOther_0 := by decide +kernel
theorem dksX9_isOther_1 : cX9_isOther.data.toList.drop 24 = dktX9_isOther_1 := dk_seg dksX9_isOther_0 24 rfl rfl
theorem dksX9_isOther_2 : cX9_isOther.data.toList.drop 48 = dktX9_isOther_2 := dk_seg dksX9_isOther_1 24 rfl rfl
theorem dksX9_isOther_3 : cX9_isOther.data.toList.drop 72 = dktX9_isOther_3 := dk_seg dksX9_isOther_2 24 rfl rfl
theorem dksX9_isOther_4 : cX9_isOther.data.toList.drop 96 = dktX9_isOther_4 := dk_seg dksX9_isOther_3 24 rfl rfl
theorem dksX9_isOther_5 : cX9_isOther.data.toList.drop 120 = dktX9_isOther_5 := dk_seg dksX9_isOther_4 24 rfl rfl
theorem dksX9_isOther_6 : cX9_isOther.data.toList.drop 143 = dktX9_isOther_6 := dk_seg dksX9_isOther_5 23 rfl rfl
theorem dX9_isOther_0 : decode cX9_isOther 0 = .ok (.aload_n 0, 1) := dk_42 (dk_at dksX9_isOther_0 0 rfl rfl)
theorem dX9_isOther_1 : decode cX9_isOther 1 = .ok (.getfield 18, 3) := dk_180 0 18 (dk_at dksX9_isOther_0 1 rfl rfl)
theorem dX9_isOther_4 : decode cX9_isOther 4 = .ok (.invokevirtual 35, 3) := dk_182 0 35 (dk_at dksX9_isOther_0 4 rfl rfl)
theorem dX9_isOther_7 : decode cX9_isOther 7 = .ok (.istore_n 1, 1) := dk_60 (dk_at dksX9_isOther_0 7 rfl rfl)
theorem dX9_isOther_8 : decode cX9_isOther 8 = .ok (.iload_n 1, 1) := dk_27 (dk_at dksX9_isOther_0 8 rfl rfl)
theorem dX9_isOther_9 : decode cX9_isOther 9 = .ok (.iconst 5, 1) := dk_8 (dk_at dksX9_isOther_0 9 rfl rfl)
theorem dX9_isOther_10 : decode cX9_isOther 10 = .ok (.if_icmp .gt 7, 3) := dk_163 0 7 (dk_at dksX9_isOther_0 10 rfl rfl)
theorem dX9_isOther_13 : decode cX9_isOther 13 = .ok (.iload_n 1, 1) := dk_27 (dk_at dksX9_isOther_0 13 rfl rfl)
theorem dX9_isOther_14 : decode cX9_isOther 14 = .ok (.ifCond .ne 5, 3) := dk_154 0 5 (dk_at dksX9_isOther_0 14 rfl rfl)
theorem dX9_isOther_17 : decode cX9_isOther 17 = .ok (.iconst 0, 1) := dk_3 (dk_at dksX9_isOther_0 17 rfl rfl)
theorem dX9_isOther_18 : decode cX9_isOther 18 = .ok (.ireturn, 1) := dk_172 (dk_at dksX9_isOther_0 18 rfl rfl)
theorem dX9_isOther_19 : decode cX9_isOther 19 = .ok (.iload_n 1, 1) := dk_27 (dk_at dksX9_isOther_0 19 rfl rfl)
theorem dX9_isOther_20 : decode cX9_isOther 20 = .ok (.newarray .int, 2) := dk_188_10 (dk_at dksX9_isOther_0 20 rfl rfl)
theorem dX9_isOther_22 : decode cX9_isOther 22 = .ok (.astore_n 2, 1) := dk_77 (dk_at dksX9_isOther_0 22 rfl rfl)
theorem dX9_isOther_23 : decode cX9_isOther 23 = .ok (.aload_n 2, 1) := dk_44 (dk_at dksX9_isOther_0 23 rfl rfl)
theorem dX9_isOther_24 : decode cX9_isOther 24 = .ok (.iconst 0, 1) := dk_3 (dk_at dksX9_isOther_1 0 rfl rfl)
theorem dX9_isOther_25 : decode cX9_isOther 25 = .ok (.iconst (-1), 1) := dk_2 (dk_at dksX9_isOther_1 1 rfl rfl)
theorem dX9_isOther_26 : decode cX9_isOther 26 = .ok (.iastore, 1) := dk_79 (dk_at dksX9_isOther_1 2 rfl rfl)
theorem dX9_isOther_27 : decode cX9_isOther 27 = .ok (.aload_n 0, 1) := dk_42 (dk_at dksX9_isOther_1 3 rfl rfl)
theorem dX9_isOther_28 : decode cX9_isOther 28 = .ok (.iload_n 1, 1) := dk_27 (dk_at dksX9_isOther_1 4 rfl rfl)
theorem dX9_isOther_29 : decode cX9_isOther 29 = .ok (.newarray .int, 2) := dk_188_10 (dk_at dksX9_isOther_1 5 rfl rfl)
theorem dX9_isOther_31 : decode cX9_isOther 31 = .ok (.iconst 0, 1) := dk_3 (dk_at dksX9_isOther_1 7 rfl rfl)
theorem dX9_isOther_32 : decode cX9_isOther 32 = .ok (.iconst 0, 1) := dk_3 (dk_at dksX9_isOther_1 8 rfl rfl)
theorem dX9_isOther_33 : decode cX9_isOther 33 = .ok (.aload_n 2, 1) := dk_44 (dk_at dksX9_isOther_1 9 rfl rfl)
theorem dX9_isOther_34 : decode cX9_isOther 34 = .ok (.invokevirtual 214, 3) := dk_182 0 214 (dk_at dksX9_isOther_1 10 rfl rfl)
theorem dX9_isOther_37 : decode cX9_isOther 37 = .ok (.iconst 0, 1) := dk_3 (dk_at dksX9_isOther_1 13 rfl rfl)
theorem dX9_isOther_38 : decode cX9_isOther 38 = .ok (.istore_n 3, 1) := dk_62 (dk_at dksX9_isOther_1 14 rfl rfl)
theorem dX9_isOther_39 : decode cX9_isOther 39 = .ok (.iload_n 3, 1) := dk_29 (dk_at dksX9_isOther_1 15 rfl rfl)
theorem dX9_isOther_40 : decode cX9_isOther 40 = .ok (.iload_n 1, 1) := dk_27 (dk_at dksX9_isOther_1 16 rfl rfl)
theorem dX9_isOther_41 : decode cX9_isOther 41 = .ok (.if_icmp .ge 23, 3) := dk_162 0 23 (dk_at dksX9_isOther_1 17 rfl rfl)
theorem dX9_isOther_44 : decode cX9_isOther 44 = .ok (.aload_n 2, 1) := dk_44 (dk_at dksX9_isOther_1 20 rfl rfl)
theorem dX9_isOther_45 : decode cX9_isOther 45 = .ok (.iload_n 3, 1) := dk_29 (dk_at dksX9_isOther_1 21 rfl rfl)
theorem dX9_isOther_46 : decode cX9_isOther 46 = .ok (.iaload, 1) := dk_46 (dk_at dksX9_isOther_1 22 rfl rfl)
theorem dX9_isOther_47 : decode cX9_isOther 47 = .ok (.aload_n 0, 1) := dk_42 (dk_at dksX9_isOther_1 23 rfl rfl)
theorem dX9_isOther_48 : decode cX9_isOther 48 = .ok (.getfield 97, 3) := dk_180 0 97 (dk_at dksX9_isOther_2 0 rfl rfl)
theorem dX9_isOther_51 : decode cX9_isOther 51 = .ok (.iload_n 3, 1) := dk_29 (dk_at dksX9_isOther_2 3 rfl rfl)
theorem dX9_isOther_52 : decode cX9_isOther 52 = .ok (.iaload, 1) := dk_46 (dk_at dksX9_isOther_2 4 rfl rfl)
theorem dX9_isOther_53 : decode cX9_isOther 53 = .ok (.if_icmp .eq 5, 3) := dk_159 0 5 (dk_at dksX9_isOther_2 5 rfl rfl)
theorem dX9_isOther_56 : decode cX9_isOther 56 = .ok (.iconst 1, 1) := dk_4 (dk_at dksX9_isOther_2 8 rfl rfl)
theorem dX9_isOther_57 : decode cX9_isOther 57 = .ok (.ireturn, 1) := dk_172 (dk_at dksX9_isOther_2 9 rfl rfl)
theorem dX9_isOther_58 : decode cX9_isOther 58 = .ok (.iinc 3 1, 3) := dk_132 3 1 (dk_at dksX9_isOther_2 10 rfl rfl)
theorem dX9_isOther_61 : decode cX9_isOther 61 = .ok (.goto (-22), 3) := dk_167 255 234 (dk_at dksX9_isOther_2 13 rfl rfl)
theorem dX9_isOther_64 : decode cX9_isOther 64 = .ok (.iconst (-1), 1) := dk_2 (dk_at dksX9_isOther_2 16 rfl rfl)
theorem dX9_isOther_65 : decode cX9_isOther 65 = .ok (.istore_n 3, 1) := dk_62 (dk_at dksX9_isOther_2 17 rfl rfl)
theorem dX9_isOther_66 : decode cX9_isOther 66 = .ok (.iconst 0, 1) := dk_3 (dk_at dksX9_isOther_2 18 rfl rfl)
theorem dX9_isOther_67 : decode cX9_isOther 67 = .ok (.istore 4, 2) := dk_54 4 (dk_at dksX9_isOther_2 19 rfl rfl)
theorem dX9_isOther_69 : decode cX9_isOther 69 = .ok (.iload 4, 2) := dk_21 4 (dk_at dksX9_isOther_2 21 rfl rfl)
theorem dX9_isOther_71 : decode cX9_isOther 71 = .ok (.iconst 1, 1) := dk_4 (dk_at dksX9_isOther_2 23 rfl rfl)
theorem dX9_isOther_72 : decode cX9_isOther 72 = .ok (.aload_n 0, 1) := dk_42 (dk_at dksX9_isOther_3 0 rfl rfl)
theorem dX9_isOther_73 : decode cX9_isOther 73 = .ok (.getfield 25, 3) := dk_180 0 25 (dk_at dksX9_isOther_3 1 rfl rfl)
theorem dX9_isOther_76 : decode cX9_isOther 76 = .ok (.invokevirtual 35, 3) := dk_182 0 35 (dk_at dksX9_isOther_3 4 rfl rfl)
theorem dX9_isOther_79 : decode cX9_isOther 79 = .ok (.ishl, 1) := dk_120 (dk_at dksX9_isOther_3 7 rfl rfl)
theorem dX9_isOther_80 : decode cX9_isOther 80 = .ok (.if_icmp .ge 40, 3) := dk_162 0 40 (dk_at dksX9_isOther_3 8 rfl rfl)
theorem dX9_isOther_83 : decode cX9_isOther 83 = .ok (.iload_n 3, 1) := dk_29 (dk_at dksX9_isOther_3 11 rfl rfl)
theorem dX9_isOther_84 : decode cX9_isOther 84 = .ok (.iconst (-1), 1) := dk_2 (dk_at dksX9_isOther_3 12 rfl rfl)
theorem dX9_isOther_85 : decode cX9_isOther 85 = .ok (.if_icmp .eq 17, 3) := dk_159 0 17 (dk_at dksX9_isOther_3 13 rfl rfl)
theorem dX9_isOther_88 : decode cX9_isOther 88 = .ok (.aload_n 0, 1) := dk_42 (dk_at dksX9_isOther_3 16 rfl rfl)
theorem dX9_isOther_89 : decode cX9_isOther 89 = .ok (.iload 4, 2) := dk_21 4 (dk_at dksX9_isOther_3 17 rfl rfl)
theorem dX9_isOther_91 : decode cX9_isOther 91 = .ok (.invokevirtual 163, 3) := dk_182 0 163 (dk_at dksX9_isOther_3 19 rfl rfl)
theorem dX9_isOther_94 : decode cX9_isOther 94 = .ok (.aload_n 0, 1) := dk_42 (dk_at dksX9_isOther_3 22 rfl rfl)
theorem dX9_isOther_95 : decode cX9_isOther 95 = .ok (.iload_n 3, 1) := dk_29 (dk_at dksX9_isOther_3 23 rfl rfl)
theorem dX9_isOther_96 : decode cX9_isOther 96 = .ok (.invokevirtual 163, 3) := dk_182 0 163 (dk_at dksX9_isOther_4 0 rfl rfl)
theorem dX9_isOther_99 : decode cX9_isOther 99 = .ok (.if_icmp .ge 15, 3) := dk_162 0 15 (dk_at dksX9_isOther_4 3 rfl rfl)
theorem dX9_isOther_102 : decode cX9_isOther 102 = .ok (.aload_n 0, 1) := dk_42 (dk_at dksX9_isOther_4 6 rfl rfl)
theorem dX9_isOther_103 : decode cX9_isOther 103 = .ok (.iload 4, 2) := dk_21 4 (dk_at dksX9_isOther_4 7 rfl rfl)
theorem dX9_isOther_105 : decode cX9_isOther 105 = .ok (.invokevirtual 221, 3) := dk_182 0 221 (dk_at dksX9_isOther_4 9 rfl rfl)
theorem dX9_isOther_108 : decode cX9_isOther 108 = .ok (.ifCond .eq 6, 3) := dk_153 0 6 (dk_at dksX9_isOther_4 12 rfl rfl)
theorem dX9_isOther_111 : decode cX9_isOther 111 = .ok (.iload 4, 2) := dk_21 4 (dk_at dksX9_isOther_4 15 rfl rfl)
theorem dX9_isOther_113 : decode cX9_isOther 113 = .ok (.istore_n 3, 1) := dk_62 (dk_at dksX9_isOther_4 17 rfl rfl)
theorem dX9_isOther_114 : decode cX9_isOther 114 = .ok (.iinc 4 1, 3) := dk_132 4 1 (dk_at dksX9_isOther_4 18 rfl rfl)
theorem dX9_isOther_117 : decode cX9_isOther 117 = .ok (.goto (-48), 3) := dk_167 255 208 (dk_at dksX9_isOther_4 21 rfl rfl)
theorem dX9_isOther_120 : decode cX9_isOther 120 = .ok (.iload_n 3, 1) := dk_29 (dk_at dksX9_isOther_5 0 rfl rfl)
theorem dX9_isOther_121 : decode cX9_isOther 121 = .ok (.aload_n 0, 1) := dk_42 (dk_at dksX9_isOther_5 1 rfl rfl)
theorem dX9_isOther_122 : decode cX9_isOther 122 = .ok (.getfield 130, 3) := dk_180 0 130 (dk_at dksX9_isOther_5 2 rfl rfl)
theorem dX9_isOther_125 : decode cX9_isOther 125 = .ok (.if_icmp .ne 21, 3) := dk_160 0 21 (dk_at dksX9_isOther_5 5 rfl rfl)
theorem dX9_isOther_128 : decode cX9_isOther 128 = .ok (.aload_n 0, 1) := dk_42 (dk_at dksX9_isOther_5 8 rfl rfl)
theorem dX9_isOther_129 : decode cX9_isOther 129 = .ok (.aload_n 2, 1) := dk_44 (dk_at dksX9_isOther_5 9 rfl rfl)
theorem dX9_isOther_130 : decode cX9_isOther 130 = .ok (.invokevirtual 204, 3) := dk_182 0 204 (dk_at dksX9_isOther_5 10 rfl rfl)
theorem dX9_isOther_133 : decode cX9_isOther 133 = .ok (.aload_n 0, 1) := dk_42 (dk_at dksX9_isOther_5 13 rfl rfl)
theorem dX9_isOther_134 : decode cX9_isOther 134 = .ok (.iload_n 3, 1) := dk_29 (dk_at dksX9_isOther_5 14 rfl rfl)
theorem dX9_isOther_135 : decode cX9_isOther 135 = .ok (.invokevirtual 163, 3) := dk_182 0 163 (dk_at dksX9_isOther_5 15 rfl rfl)
theorem dX9_isOther_138 : decode cX9_isOther 138 = .ok (.iadd, 1) := dk_96 (dk_at dksX9_isOther_5 18 rfl rfl)
theorem dX9_isOther_139 : decode cX9_isOther 139 = .ok (.aload_n 0, 1) := dk_42 (dk_at dksX9_isOther_5 19 rfl rfl)
theorem dX9_isOther_140 : decode cX9_isOther 140 = .ok (.invokevirtual 225, 3) := dk_182 0 225 (dk_at dksX9_isOther_5 20 rfl rfl)
theorem dX9_isOther_143 : decode cX9_isOther 143 = .ok (.if_icmp .eq 7, 3) := dk_159 0 7 (dk_at dksX9_isOther_6 0 rfl rfl)
theorem dX9_isOther_146 : decode cX9_isOther 146 = .ok (.iconst 1, 1) := dk_4 (dk_at dksX9_isOther_6 3 rfl rfl)
theorem dX9_isOther_147 : decode cX9_isOther 147 = .ok (.goto 4, 3) := dk_167 0 4 (dk_at dksX9_isOther_6 4 rfl rfl)
theorem dX9_isOther_150 : decode cX9_isOther 150 = .ok (.iconst 0, 1) := dk_3 (dk_at dksX9_isOther_6 7 rfl rfl)
theorem dX9_isOther_151 : decode cX9_isOther 151 = .ok (.ireturn, 1) := dk_172 (dk_at dksX9_isOther_6 8 rfl rfl)
abbrev cX9_rows : ByteArray := prog_12_method_16_code
def yX9_rows : MethodName := ⟨RX9, "rows", "([III[I)V"⟩
def dkwX9_rows_3 : List UInt8 := [96, 29, 4, 21, 5, 120, 128, 25, 4, 182, 0, 214, 132, 5, 1, 167, 255, 213, 177]
abbrev dktX9_rows_3 : List UInt8 := dkwX9_rows_3 ++ []
def dkwX9_rows_2 : List UInt8 := [162, 0, 42, 29, 21, 5, 184, 0, 141, 153, 0, 6, 167, 0, 24, 43, 28, 21, 5, 79, 42, 43, 28, 4]
abbrev dktX9_rows_2 : List UInt8 := dkwX9_rows_2 ++ dktX9_rows_3
def dkwX9_rows_1 : List UInt8 := [182, 0, 204, 162, 0, 13, 43, 3, 25, 4, 3, 43, 190, 184, 0, 208, 177, 3, 54, 5, 21, 5, 43, 190]
abbrev dktX9_rows_1 : List UInt8 := dkwX9_rows_1 ++ dktX9_rows_2
def dkwX9_rows_0 : List UInt8 := [28, 43, 190, 160, 0, 36, 25, 4, 3, 46, 2, 159, 0, 17, 42, 43, 182, 0, 204, 42, 25, 4]
abbrev dktX9_rows_0 : List UInt8 := dkwX9_rows_0 ++ dktX9_rows_1
theorem dksX9_rows_0 : cX9_rows.data.toList.drop 0 = dktX9_rows_0 := by decide +kernel
theorem dksX9_rows_1 : cX9_rows.data.toList.drop 22 = dktX9_rows_1 := dk_seg dksX9_rows_0 22 rfl rfl
theorem dksX9_rows_2 : cX9_rows.data.toList.drop 46 = dktX9_rows_2 := dk_seg dksX9_rows_1 24 rfl rfl
theorem dksX9_rows_3 : cX9_rows.data.toList.drop 70 = dktX9_rows_3 := dk_seg dksX9_rows_2 24 rfl rfl
theorem dX9_rows_0 : decode cX9_rows 0 = .ok (.iload_n 2, 1) := dk_28 (dk_at dksX9_rows_0 0 rfl rfl)
theorem dX9_rows_1 : decode cX9_rows 1 = .ok (.aload_n 1, 1) := dk_43 (dk_at dksX9_rows_0 1 rfl rfl)
theorem dX9_rows_2 : decode cX9_rows 2 = .ok (.arraylength, 1) := dk_190 (dk_at dksX9_rows_0 2 rfl rfl)
theorem dX9_rows_3 : decode cX9_rows 3 = .ok (.if_icmp .ne 36, 3) := dk_160 0 36 (dk_at dksX9_rows_0 3 rfl rfl)
theorem dX9_rows_6 : decode cX9_rows 6 = .ok (.aload 4, 2) := dk_25 4 (dk_at dksX9_rows_0 6 rfl rfl)
theorem dX9_rows_8 : decode cX9_rows 8 = .ok (.iconst 0, 1) := dk_3 (dk_at dksX9_rows_0 8 rfl rfl)
theorem dX9_rows_9 : decode cX9_rows 9 = .ok (.iaload, 1) := dk_46 (dk_at dksX9_rows_0 9 rfl rfl)
theorem dX9_rows_10 : decode cX9_rows 10 = .ok (.iconst (-1), 1) := dk_2 (dk_at dksX9_rows_0 10 rfl rfl)
theorem dX9_rows_11 : decode cX9_rows 11 = .ok (.if_icmp .eq 17, 3) := dk_159 0 17 (dk_at dksX9_rows_0 11 rfl rfl)
theorem dX9_rows_14 : decode cX9_rows 14 = .ok (.aload_n 0, 1) := dk_42 (dk_at dksX9_rows_0 14 rfl rfl)
theorem dX9_rows_15 : decode cX9_rows 15 = .ok (.aload_n 1, 1) := dk_43 (dk_at dksX9_rows_0 15 rfl rfl)
theorem dX9_rows_16 : decode cX9_rows 16 = .ok (.invokevirtual 204, 3) := dk_182 0 204 (dk_at dksX9_rows_0 16 rfl rfl)
theorem dX9_rows_19 : decode cX9_rows 19 = .ok (.aload_n 0, 1) := dk_42 (dk_at dksX9_rows_0 19 rfl rfl)
theorem dX9_rows_20 : decode cX9_rows 20 = .ok (.aload 4, 2) := dk_25 4 (dk_at dksX9_rows_0 20 rfl rfl)
theorem dX9_rows_22 : decode cX9_rows 22 = .ok (.invokevirtual 204, 3) := dk_182 0 204 (dk_at dksX9_rows_1 0 rfl rfl)
theorem dX9_rows_25 : decode cX9_rows 25 = .ok (.if_icmp .ge 13, 3) := dk_162 0 13 (dk_at dksX9_rows_1 3 rfl rfl)
theorem dX9_rows_28 : decode cX9_rows 28 = .ok (.aload_n 1, 1) := dk_43 (dk_at dksX9_rows_1 6 rfl rfl)
theorem dX9_rows_29 : decode cX9_rows 29 = .ok (.iconst 0, 1) := dk_3 (dk_at dksX9_rows_1 7 rfl rfl)
theorem dX9_rows_30 : decode cX9_rows 30 = .ok (.aload 4, 2) := dk_25 4 (dk_at dksX9_rows_1 8 rfl rfl)
theorem dX9_rows_32 : decode cX9_rows 32 = .ok (.iconst 0, 1) := dk_3 (dk_at dksX9_rows_1 10 rfl rfl)
theorem dX9_rows_33 : decode cX9_rows 33 = .ok (.aload_n 1, 1) := dk_43 (dk_at dksX9_rows_1 11 rfl rfl)
theorem dX9_rows_34 : decode cX9_rows 34 = .ok (.arraylength, 1) := dk_190 (dk_at dksX9_rows_1 12 rfl rfl)
theorem dX9_rows_35 : decode cX9_rows 35 = .ok (.invokestatic 208, 3) := dk_184 0 208 (dk_at dksX9_rows_1 13 rfl rfl)
theorem dX9_rows_38 : decode cX9_rows 38 = .ok (.return_, 1) := dk_177 (dk_at dksX9_rows_1 16 rfl rfl)
theorem dX9_rows_39 : decode cX9_rows 39 = .ok (.iconst 0, 1) := dk_3 (dk_at dksX9_rows_1 17 rfl rfl)
theorem dX9_rows_40 : decode cX9_rows 40 = .ok (.istore 5, 2) := dk_54 5 (dk_at dksX9_rows_1 18 rfl rfl)
theorem dX9_rows_42 : decode cX9_rows 42 = .ok (.iload 5, 2) := dk_21 5 (dk_at dksX9_rows_1 20 rfl rfl)
theorem dX9_rows_44 : decode cX9_rows 44 = .ok (.aload_n 1, 1) := dk_43 (dk_at dksX9_rows_1 22 rfl rfl)
theorem dX9_rows_45 : decode cX9_rows 45 = .ok (.arraylength, 1) := dk_190 (dk_at dksX9_rows_1 23 rfl rfl)
theorem dX9_rows_46 : decode cX9_rows 46 = .ok (.if_icmp .ge 42, 3) := dk_162 0 42 (dk_at dksX9_rows_2 0 rfl rfl)
theorem dX9_rows_49 : decode cX9_rows 49 = .ok (.iload_n 3, 1) := dk_29 (dk_at dksX9_rows_2 3 rfl rfl)
theorem dX9_rows_50 : decode cX9_rows 50 = .ok (.iload 5, 2) := dk_21 5 (dk_at dksX9_rows_2 4 rfl rfl)
theorem dX9_rows_52 : decode cX9_rows 52 = .ok (.invokestatic 141, 3) := dk_184 0 141 (dk_at dksX9_rows_2 6 rfl rfl)
theorem dX9_rows_55 : decode cX9_rows 55 = .ok (.ifCond .eq 6, 3) := dk_153 0 6 (dk_at dksX9_rows_2 9 rfl rfl)
theorem dX9_rows_58 : decode cX9_rows 58 = .ok (.goto 24, 3) := dk_167 0 24 (dk_at dksX9_rows_2 12 rfl rfl)
theorem dX9_rows_61 : decode cX9_rows 61 = .ok (.aload_n 1, 1) := dk_43 (dk_at dksX9_rows_2 15 rfl rfl)
theorem dX9_rows_62 : decode cX9_rows 62 = .ok (.iload_n 2, 1) := dk_28 (dk_at dksX9_rows_2 16 rfl rfl)
theorem dX9_rows_63 : decode cX9_rows 63 = .ok (.iload 5, 2) := dk_21 5 (dk_at dksX9_rows_2 17 rfl rfl)
theorem dX9_rows_65 : decode cX9_rows 65 = .ok (.iastore, 1) := dk_79 (dk_at dksX9_rows_2 19 rfl rfl)
theorem dX9_rows_66 : decode cX9_rows 66 = .ok (.aload_n 0, 1) := dk_42 (dk_at dksX9_rows_2 20 rfl rfl)
theorem dX9_rows_67 : decode cX9_rows 67 = .ok (.aload_n 1, 1) := dk_43 (dk_at dksX9_rows_2 21 rfl rfl)
theorem dX9_rows_68 : decode cX9_rows 68 = .ok (.iload_n 2, 1) := dk_28 (dk_at dksX9_rows_2 22 rfl rfl)
theorem dX9_rows_69 : decode cX9_rows 69 = .ok (.iconst 1, 1) := dk_4 (dk_at dksX9_rows_2 23 rfl rfl)
theorem dX9_rows_70 : decode cX9_rows 70 = .ok (.iadd, 1) := dk_96 (dk_at dksX9_rows_3 0 rfl rfl)
theorem dX9_rows_71 : decode cX9_rows 71 = .ok (.iload_n 3, 1) := dk_29 (dk_at dksX9_rows_3 1 rfl rfl)
theorem dX9_rows_72 : decode cX9_rows 72 = .ok (.iconst 1, 1) := dk_4 (dk_at dksX9_rows_3 2 rfl rfl)
theorem dX9_rows_73 : decode cX9_rows 73 = .ok (.iload 5, 2) := dk_21 5 (dk_at dksX9_rows_3 3 rfl rfl)
theorem dX9_rows_75 : decode cX9_rows 75 = .ok (.ishl, 1) := dk_120 (dk_at dksX9_rows_3 5 rfl rfl)
theorem dX9_rows_76 : decode cX9_rows 76 = .ok (.ior, 1) := dk_128 (dk_at dksX9_rows_3 6 rfl rfl)
theorem dX9_rows_77 : decode cX9_rows 77 = .ok (.aload 4, 2) := dk_25 4 (dk_at dksX9_rows_3 7 rfl rfl)
theorem dX9_rows_79 : decode cX9_rows 79 = .ok (.invokevirtual 214, 3) := dk_182 0 214 (dk_at dksX9_rows_3 9 rfl rfl)
theorem dX9_rows_82 : decode cX9_rows 82 = .ok (.iinc 5 1, 3) := dk_132 5 1 (dk_at dksX9_rows_3 12 rfl rfl)
theorem dX9_rows_85 : decode cX9_rows 85 = .ok (.goto (-43), 3) := dk_167 255 213 (dk_at dksX9_rows_3 15 rfl rfl)
theorem dX9_rows_88 : decode cX9_rows 88 = .ok (.return_, 1) := dk_177 (dk_at dksX9_rows_3 18 rfl rfl)
abbrev cX9_broken : ByteArray := prog_12_method_15_code
def yX9_broken : MethodName := ⟨RX9, "broken", "([I)I"⟩
def dkwX9_broken_1 : List UInt8 := [96, 61, 29, 4, 43, 21, 4, 46, 120, 128, 62, 132, 4, 1, 167, 255, 225, 28, 172]
abbrev dktX9_broken_1 : List UInt8 := dkwX9_broken_1 ++ []
def dkwX9_broken_0 : List UInt8 := [3, 61, 3, 62, 3, 54, 4, 21, 4, 43, 190, 162, 0, 30, 28, 42, 29, 43, 21, 4, 46, 182, 0, 200]
abbrev dktX9_broken_0 : List UInt8 := dkwX9_broken_0 ++ dktX9_broken_1
theorem dksX9_broken_0 : cX9_broken.data.toList.drop 0 = dktX9_broken_0 := by decide +kernel
theorem dksX9_broken_1 : cX9_broken.data.toList.drop 24 = dktX9_broken_1 := dk_seg dksX9_broken_0 24 rfl rfl
theorem dX9_broken_0 : decode cX9_broken 0 = .ok (.iconst 0, 1) := dk_3 (dk_at dksX9_broken_0 0 rfl rfl)
theorem dX9_broken_1 : decode cX9_broken 1 = .ok (.istore_n 2, 1) := dk_61 (dk_at dksX9_broken_0 1 rfl rfl)
theorem dX9_broken_2 : decode cX9_broken 2 = .ok (.iconst 0, 1) := dk_3 (dk_at dksX9_broken_0 2 rfl rfl)
theorem dX9_broken_3 : decode cX9_broken 3 = .ok (.istore_n 3, 1) := dk_62 (dk_at dksX9_broken_0 3 rfl rfl)
theorem dX9_broken_4 : decode cX9_broken 4 = .ok (.iconst 0, 1) := dk_3 (dk_at dksX9_broken_0 4 rfl rfl)
theorem dX9_broken_5 : decode cX9_broken 5 = .ok (.istore 4, 2) := dk_54 4 (dk_at dksX9_broken_0 5 rfl rfl)
theorem dX9_broken_7 : decode cX9_broken 7 = .ok (.iload 4, 2) := dk_21 4 (dk_at dksX9_broken_0 7 rfl rfl)
theorem dX9_broken_9 : decode cX9_broken 9 = .ok (.aload_n 1, 1) := dk_43 (dk_at dksX9_broken_0 9 rfl rfl)
theorem dX9_broken_10 : decode cX9_broken 10 = .ok (.arraylength, 1) := dk_190 (dk_at dksX9_broken_0 10 rfl rfl)
theorem dX9_broken_11 : decode cX9_broken 11 = .ok (.if_icmp .ge 30, 3) := dk_162 0 30 (dk_at dksX9_broken_0 11 rfl rfl)
theorem dX9_broken_14 : decode cX9_broken 14 = .ok (.iload_n 2, 1) := dk_28 (dk_at dksX9_broken_0 14 rfl rfl)
theorem dX9_broken_15 : decode cX9_broken 15 = .ok (.aload_n 0, 1) := dk_42 (dk_at dksX9_broken_0 15 rfl rfl)
theorem dX9_broken_16 : decode cX9_broken 16 = .ok (.iload_n 3, 1) := dk_29 (dk_at dksX9_broken_0 16 rfl rfl)
theorem dX9_broken_17 : decode cX9_broken 17 = .ok (.aload_n 1, 1) := dk_43 (dk_at dksX9_broken_0 17 rfl rfl)
theorem dX9_broken_18 : decode cX9_broken 18 = .ok (.iload 4, 2) := dk_21 4 (dk_at dksX9_broken_0 18 rfl rfl)
theorem dX9_broken_20 : decode cX9_broken 20 = .ok (.iaload, 1) := dk_46 (dk_at dksX9_broken_0 20 rfl rfl)
theorem dX9_broken_21 : decode cX9_broken 21 = .ok (.invokevirtual 200, 3) := dk_182 0 200 (dk_at dksX9_broken_0 21 rfl rfl)
theorem dX9_broken_24 : decode cX9_broken 24 = .ok (.iadd, 1) := dk_96 (dk_at dksX9_broken_1 0 rfl rfl)
theorem dX9_broken_25 : decode cX9_broken 25 = .ok (.istore_n 2, 1) := dk_61 (dk_at dksX9_broken_1 1 rfl rfl)
theorem dX9_broken_26 : decode cX9_broken 26 = .ok (.iload_n 3, 1) := dk_29 (dk_at dksX9_broken_1 2 rfl rfl)
theorem dX9_broken_27 : decode cX9_broken 27 = .ok (.iconst 1, 1) := dk_4 (dk_at dksX9_broken_1 3 rfl rfl)
theorem dX9_broken_28 : decode cX9_broken 28 = .ok (.aload_n 1, 1) := dk_43 (dk_at dksX9_broken_1 4 rfl rfl)
theorem dX9_broken_29 : decode cX9_broken 29 = .ok (.iload 4, 2) := dk_21 4 (dk_at dksX9_broken_1 5 rfl rfl)
theorem dX9_broken_31 : decode cX9_broken 31 = .ok (.iaload, 1) := dk_46 (dk_at dksX9_broken_1 7 rfl rfl)
theorem dX9_broken_32 : decode cX9_broken 32 = .ok (.ishl, 1) := dk_120 (dk_at dksX9_broken_1 8 rfl rfl)
theorem dX9_broken_33 : decode cX9_broken 33 = .ok (.ior, 1) := dk_128 (dk_at dksX9_broken_1 9 rfl rfl)
theorem dX9_broken_34 : decode cX9_broken 34 = .ok (.istore_n 3, 1) := dk_62 (dk_at dksX9_broken_1 10 rfl rfl)
theorem dX9_broken_35 : decode cX9_broken 35 = .ok (.iinc 4 1, 3) := dk_132 4 1 (dk_at dksX9_broken_1 11 rfl rfl)
theorem dX9_broken_38 : decode cX9_broken 38 = .ok (.goto (-31), 3) := dk_167 255 225 (dk_at dksX9_broken_1 14 rfl rfl)
theorem dX9_broken_41 : decode cX9_broken 41 = .ok (.iload_n 2, 1) := dk_28 (dk_at dksX9_broken_1 17 rfl rfl)
theorem dX9_broken_42 : decode cX9_broken 42 = .ok (.ireturn, 1) := dk_172 (dk_at dksX9_broken_1 18 rfl rfl)
abbrev cX9_isFree : ByteArray := prog_12_method_17_code
def yX9_isFree : MethodName := ⟨RX9, "isFree", "(I)Z"⟩
def dkwX9_isFree_2 : List UInt8 := [182, 0, 218, 153, 0, 5, 3, 172, 132, 3, 1, 167, 255, 215, 132, 2, 1, 167, 255, 196, 4, 172]
abbrev dktX9_isFree_2 : List UInt8 := dkwX9_isFree_2 ++ []
def dkwX9_isFree_1 : List UInt8 := [162, 0, 36, 27, 28, 184, 0, 141, 154, 0, 22, 27, 29, 184, 0, 141, 154, 0, 14, 42, 28, 29]
abbrev dktX9_isFree_1 : List UInt8 := dkwX9_isFree_1 ++ dktX9_isFree_2
def dkwX9_isFree_0 : List UInt8 := [3, 61, 28, 42, 180, 0, 25, 182, 0, 35, 162, 0, 55, 3, 62, 29, 42, 180, 0, 25, 182, 0, 35]
abbrev dktX9_isFree_0 : List UInt8 := dkwX9_isFree_0 ++ dktX9_isFree_1
theorem dksX9_isFree_0 : cX9_isFree.data.toList.drop 0 = dktX9_isFree_0 := by decide +kernel
theorem dksX9_isFree_1 : cX9_isFree.data.toList.drop 23 = dktX9_isFree_1 := dk_seg dksX9_isFree_0 23 rfl rfl
theorem dksX9_isFree_2 : cX9_isFree.data.toList.drop 45 = dktX9_isFree_2 := dk_seg dksX9_isFree_1 22 rfl rfl
theorem dX9_isFree_0 : decode cX9_isFree 0 = .ok (.iconst 0, 1) := dk_3 (dk_at dksX9_isFree_0 0 rfl rfl)
theorem dX9_isFree_1 : decode cX9_isFree 1 = .ok (.istore_n 2, 1) := dk_61 (dk_at dksX9_isFree_0 1 rfl rfl)
theorem dX9_isFree_2 : decode cX9_isFree 2 = .ok (.iload_n 2, 1) := dk_28 (dk_at dksX9_isFree_0 2 rfl rfl)
theorem dX9_isFree_3 : decode cX9_isFree 3 = .ok (.aload_n 0, 1) := dk_42 (dk_at dksX9_isFree_0 3 rfl rfl)
theorem dX9_isFree_4 : decode cX9_isFree 4 = .ok (.getfield 25, 3) := dk_180 0 25 (dk_at dksX9_isFree_0 4 rfl rfl)
theorem dX9_isFree_7 : decode cX9_isFree 7 = .ok (.invokevirtual 35, 3) := dk_182 0 35 (dk_at dksX9_isFree_0 7 rfl rfl)
theorem dX9_isFree_10 : decode cX9_isFree 10 = .ok (.if_icmp .ge 55, 3) := dk_162 0 55 (dk_at dksX9_isFree_0 10 rfl rfl)
theorem dX9_isFree_13 : decode cX9_isFree 13 = .ok (.iconst 0, 1) := dk_3 (dk_at dksX9_isFree_0 13 rfl rfl)
theorem dX9_isFree_14 : decode cX9_isFree 14 = .ok (.istore_n 3, 1) := dk_62 (dk_at dksX9_isFree_0 14 rfl rfl)
theorem dX9_isFree_15 : decode cX9_isFree 15 = .ok (.iload_n 3, 1) := dk_29 (dk_at dksX9_isFree_0 15 rfl rfl)
theorem dX9_isFree_16 : decode cX9_isFree 16 = .ok (.aload_n 0, 1) := dk_42 (dk_at dksX9_isFree_0 16 rfl rfl)
theorem dX9_isFree_17 : decode cX9_isFree 17 = .ok (.getfield 25, 3) := dk_180 0 25 (dk_at dksX9_isFree_0 17 rfl rfl)
theorem dX9_isFree_20 : decode cX9_isFree 20 = .ok (.invokevirtual 35, 3) := dk_182 0 35 (dk_at dksX9_isFree_0 20 rfl rfl)
theorem dX9_isFree_23 : decode cX9_isFree 23 = .ok (.if_icmp .ge 36, 3) := dk_162 0 36 (dk_at dksX9_isFree_1 0 rfl rfl)
theorem dX9_isFree_26 : decode cX9_isFree 26 = .ok (.iload_n 1, 1) := dk_27 (dk_at dksX9_isFree_1 3 rfl rfl)
theorem dX9_isFree_27 : decode cX9_isFree 27 = .ok (.iload_n 2, 1) := dk_28 (dk_at dksX9_isFree_1 4 rfl rfl)
theorem dX9_isFree_28 : decode cX9_isFree 28 = .ok (.invokestatic 141, 3) := dk_184 0 141 (dk_at dksX9_isFree_1 5 rfl rfl)
theorem dX9_isFree_31 : decode cX9_isFree 31 = .ok (.ifCond .ne 22, 3) := dk_154 0 22 (dk_at dksX9_isFree_1 8 rfl rfl)
theorem dX9_isFree_34 : decode cX9_isFree 34 = .ok (.iload_n 1, 1) := dk_27 (dk_at dksX9_isFree_1 11 rfl rfl)
theorem dX9_isFree_35 : decode cX9_isFree 35 = .ok (.iload_n 3, 1) := dk_29 (dk_at dksX9_isFree_1 12 rfl rfl)
theorem dX9_isFree_36 : decode cX9_isFree 36 = .ok (.invokestatic 141, 3) := dk_184 0 141 (dk_at dksX9_isFree_1 13 rfl rfl)
theorem dX9_isFree_39 : decode cX9_isFree 39 = .ok (.ifCond .ne 14, 3) := dk_154 0 14 (dk_at dksX9_isFree_1 16 rfl rfl)
theorem dX9_isFree_42 : decode cX9_isFree 42 = .ok (.aload_n 0, 1) := dk_42 (dk_at dksX9_isFree_1 19 rfl rfl)
theorem dX9_isFree_43 : decode cX9_isFree 43 = .ok (.iload_n 2, 1) := dk_28 (dk_at dksX9_isFree_1 20 rfl rfl)
theorem dX9_isFree_44 : decode cX9_isFree 44 = .ok (.iload_n 3, 1) := dk_29 (dk_at dksX9_isFree_1 21 rfl rfl)
theorem dX9_isFree_45 : decode cX9_isFree 45 = .ok (.invokevirtual 218, 3) := dk_182 0 218 (dk_at dksX9_isFree_2 0 rfl rfl)
theorem dX9_isFree_48 : decode cX9_isFree 48 = .ok (.ifCond .eq 5, 3) := dk_153 0 5 (dk_at dksX9_isFree_2 3 rfl rfl)
theorem dX9_isFree_51 : decode cX9_isFree 51 = .ok (.iconst 0, 1) := dk_3 (dk_at dksX9_isFree_2 6 rfl rfl)
theorem dX9_isFree_52 : decode cX9_isFree 52 = .ok (.ireturn, 1) := dk_172 (dk_at dksX9_isFree_2 7 rfl rfl)
theorem dX9_isFree_53 : decode cX9_isFree 53 = .ok (.iinc 3 1, 3) := dk_132 3 1 (dk_at dksX9_isFree_2 8 rfl rfl)
theorem dX9_isFree_56 : decode cX9_isFree 56 = .ok (.goto (-41), 3) := dk_167 255 215 (dk_at dksX9_isFree_2 11 rfl rfl)
theorem dX9_isFree_59 : decode cX9_isFree 59 = .ok (.iinc 2 1, 3) := dk_132 2 1 (dk_at dksX9_isFree_2 14 rfl rfl)
theorem dX9_isFree_62 : decode cX9_isFree 62 = .ok (.goto (-60), 3) := dk_167 255 196 (dk_at dksX9_isFree_2 17 rfl rfl)
theorem dX9_isFree_65 : decode cX9_isFree 65 = .ok (.iconst 1, 1) := dk_4 (dk_at dksX9_isFree_2 20 rfl rfl)
theorem dX9_isFree_66 : decode cX9_isFree 66 = .ok (.ireturn, 1) := dk_172 (dk_at dksX9_isFree_2 21 rfl rfl)
abbrev cX9_brokenWeight : ByteArray := prog_12_method_14_code
def yX9_brokenWeight : MethodName := ⟨RX9, "brokenWeight", "()I"⟩
def dkwX9_brokenWeight_2 : List UInt8 := [182, 0, 39, 192, 0, 79, 180, 0, 145, 96, 60, 132, 2, 1, 167, 255, 207, 27, 172]
abbrev dktX9_brokenWeight_2 : List UInt8 := dkwX9_brokenWeight_2 ++ []
def dkwX9_brokenWeight_1 : List UInt8 := [180, 0, 22, 28, 182, 0, 39, 192, 0, 79, 182, 0, 106, 153, 0, 20, 27, 42, 180, 0, 22, 28]
abbrev dktX9_brokenWeight_1 : List UInt8 := dkwX9_brokenWeight_1 ++ dktX9_brokenWeight_2
def dkwX9_brokenWeight_0 : List UInt8 := [42, 42, 180, 0, 130, 182, 0, 163, 60, 3, 61, 28, 42, 180, 0, 22, 182, 0, 35, 162, 0, 44, 42, 42]
abbrev dktX9_brokenWeight_0 : List UInt8 := dkwX9_brokenWeight_0 ++ dktX9_brokenWeight_1
theorem dksX9_brokenWeight_0 : cX9_brokenWeight.data.toList.drop 0 = dktX9_brokenWeight_0 := by decide +kernel
theorem dksX9_brokenWeight_1 : cX9_brokenWeight.data.toList.drop 24 = dktX9_brokenWeight_1 := dk_seg dksX9_brokenWeight_0 24 rfl rfl
theorem dksX9_brokenWeight_2 : cX9_brokenWeight.data.toList.drop 46 = dktX9_brokenWeight_2 := dk_seg dksX9_brokenWeight_1 22 rfl rfl
theorem dX9_brokenWeight_0 : decode cX9_brokenWeight 0 = .ok (.aload_n 0, 1) := dk_42 (dk_at dksX9_brokenWeight_0 0 rfl rfl)
theorem dX9_brokenWeight_1 : decode cX9_brokenWeight 1 = .ok (.aload_n 0, 1) := dk_42 (dk_at dksX9_brokenWeight_0 1 rfl rfl)
theorem dX9_brokenWeight_2 : decode cX9_brokenWeight 2 = .ok (.getfield 130, 3) := dk_180 0 130 (dk_at dksX9_brokenWeight_0 2 rfl rfl)
theorem dX9_brokenWeight_5 : decode cX9_brokenWeight 5 = .ok (.invokevirtual 163, 3) := dk_182 0 163 (dk_at dksX9_brokenWeight_0 5 rfl rfl)
theorem dX9_brokenWeight_8 : decode cX9_brokenWeight 8 = .ok (.istore_n 1, 1) := dk_60 (dk_at dksX9_brokenWeight_0 8 rfl rfl)
theorem dX9_brokenWeight_9 : decode cX9_brokenWeight 9 = .ok (.iconst 0, 1) := dk_3 (dk_at dksX9_brokenWeight_0 9 rfl rfl)
theorem dX9_brokenWeight_10 : decode cX9_brokenWeight 10 = .ok (.istore_n 2, 1) := dk_61 (dk_at dksX9_brokenWeight_0 10 rfl rfl)
theorem dX9_brokenWeight_11 : decode cX9_brokenWeight 11 = .ok (.iload_n 2, 1) := dk_28 (dk_at dksX9_brokenWeight_0 11 rfl rfl)
theorem dX9_brokenWeight_12 : decode cX9_brokenWeight 12 = .ok (.aload_n 0, 1) := dk_42 (dk_at dksX9_brokenWeight_0 12 rfl rfl)
theorem dX9_brokenWeight_13 : decode cX9_brokenWeight 13 = .ok (.getfield 22, 3) := dk_180 0 22 (dk_at dksX9_brokenWeight_0 13 rfl rfl)
theorem dX9_brokenWeight_16 : decode cX9_brokenWeight 16 = .ok (.invokevirtual 35, 3) := dk_182 0 35 (dk_at dksX9_brokenWeight_0 16 rfl rfl)
theorem dX9_brokenWeight_19 : decode cX9_brokenWeight 19 = .ok (.if_icmp .ge 44, 3) := dk_162 0 44 (dk_at dksX9_brokenWeight_0 19 rfl rfl)
theorem dX9_brokenWeight_22 : decode cX9_brokenWeight 22 = .ok (.aload_n 0, 1) := dk_42 (dk_at dksX9_brokenWeight_0 22 rfl rfl)
theorem dX9_brokenWeight_23 : decode cX9_brokenWeight 23 = .ok (.aload_n 0, 1) := dk_42 (dk_at dksX9_brokenWeight_0 23 rfl rfl)
theorem dX9_brokenWeight_24 : decode cX9_brokenWeight 24 = .ok (.getfield 22, 3) := dk_180 0 22 (dk_at dksX9_brokenWeight_1 0 rfl rfl)
theorem dX9_brokenWeight_27 : decode cX9_brokenWeight 27 = .ok (.iload_n 2, 1) := dk_28 (dk_at dksX9_brokenWeight_1 3 rfl rfl)
theorem dX9_brokenWeight_28 : decode cX9_brokenWeight 28 = .ok (.invokevirtual 39, 3) := dk_182 0 39 (dk_at dksX9_brokenWeight_1 4 rfl rfl)
theorem dX9_brokenWeight_31 : decode cX9_brokenWeight 31 = .ok (.checkcast 79, 3) := dk_192 0 79 (dk_at dksX9_brokenWeight_1 7 rfl rfl)
theorem dX9_brokenWeight_34 : decode cX9_brokenWeight 34 = .ok (.invokevirtual 106, 3) := dk_182 0 106 (dk_at dksX9_brokenWeight_1 10 rfl rfl)
theorem dX9_brokenWeight_37 : decode cX9_brokenWeight 37 = .ok (.ifCond .eq 20, 3) := dk_153 0 20 (dk_at dksX9_brokenWeight_1 13 rfl rfl)
theorem dX9_brokenWeight_40 : decode cX9_brokenWeight 40 = .ok (.iload_n 1, 1) := dk_27 (dk_at dksX9_brokenWeight_1 16 rfl rfl)
theorem dX9_brokenWeight_41 : decode cX9_brokenWeight 41 = .ok (.aload_n 0, 1) := dk_42 (dk_at dksX9_brokenWeight_1 17 rfl rfl)
theorem dX9_brokenWeight_42 : decode cX9_brokenWeight 42 = .ok (.getfield 22, 3) := dk_180 0 22 (dk_at dksX9_brokenWeight_1 18 rfl rfl)
theorem dX9_brokenWeight_45 : decode cX9_brokenWeight 45 = .ok (.iload_n 2, 1) := dk_28 (dk_at dksX9_brokenWeight_1 21 rfl rfl)
theorem dX9_brokenWeight_46 : decode cX9_brokenWeight 46 = .ok (.invokevirtual 39, 3) := dk_182 0 39 (dk_at dksX9_brokenWeight_2 0 rfl rfl)
theorem dX9_brokenWeight_49 : decode cX9_brokenWeight 49 = .ok (.checkcast 79, 3) := dk_192 0 79 (dk_at dksX9_brokenWeight_2 3 rfl rfl)
theorem dX9_brokenWeight_52 : decode cX9_brokenWeight 52 = .ok (.getfield 145, 3) := dk_180 0 145 (dk_at dksX9_brokenWeight_2 6 rfl rfl)
theorem dX9_brokenWeight_55 : decode cX9_brokenWeight 55 = .ok (.iadd, 1) := dk_96 (dk_at dksX9_brokenWeight_2 9 rfl rfl)
theorem dX9_brokenWeight_56 : decode cX9_brokenWeight 56 = .ok (.istore_n 1, 1) := dk_60 (dk_at dksX9_brokenWeight_2 10 rfl rfl)
theorem dX9_brokenWeight_57 : decode cX9_brokenWeight 57 = .ok (.iinc 2 1, 3) := dk_132 2 1 (dk_at dksX9_brokenWeight_2 11 rfl rfl)
theorem dX9_brokenWeight_60 : decode cX9_brokenWeight 60 = .ok (.goto (-49), 3) := dk_167 255 207 (dk_at dksX9_brokenWeight_2 14 rfl rfl)
theorem dX9_brokenWeight_63 : decode cX9_brokenWeight 63 = .ok (.iload_n 1, 1) := dk_27 (dk_at dksX9_brokenWeight_2 17 rfl rfl)
theorem dX9_brokenWeight_64 : decode cX9_brokenWeight 64 = .ok (.ireturn, 1) := dk_172 (dk_at dksX9_brokenWeight_2 18 rfl rfl)
abbrev cX9_year : ByteArray := prog_12_method_13_code
def yX9_year : MethodName := ⟨RX9, "year", "(LFigureSurvey$Figure;Z)I"⟩
def dkwX9_year_1 : List UInt8 := [17, 117, 48, 167, 0, 4, 3, 172]
abbrev dktX9_year_1 : List UInt8 := dkwX9_year_1 ++ []
def dkwX9_year_0 : List UInt8 := [42, 43, 28, 182, 0, 196, 78, 45, 198, 0, 10, 45, 180, 0, 190, 167, 0, 14, 28, 153, 0, 9]
abbrev dktX9_year_0 : List UInt8 := dkwX9_year_0 ++ dktX9_year_1
theorem dksX9_year_0 : cX9_year.data.toList.drop 0 = dktX9_year_0 := by decide +kernel
theorem dksX9_year_1 : cX9_year.data.toList.drop 22 = dktX9_year_1 := dk_seg dksX9_year_0 22 rfl rfl
theorem dX9_year_0 : decode cX9_year 0 = .ok (.aload_n 0, 1) := dk_42 (dk_at dksX9_year_0 0 rfl rfl)
theorem dX9_year_1 : decode cX9_year 1 = .ok (.aload_n 1, 1) := dk_43 (dk_at dksX9_year_0 1 rfl rfl)
theorem dX9_year_2 : decode cX9_year 2 = .ok (.iload_n 2, 1) := dk_28 (dk_at dksX9_year_0 2 rfl rfl)
theorem dX9_year_3 : decode cX9_year 3 = .ok (.invokevirtual 196, 3) := dk_182 0 196 (dk_at dksX9_year_0 3 rfl rfl)
theorem dX9_year_6 : decode cX9_year 6 = .ok (.astore_n 3, 1) := dk_78 (dk_at dksX9_year_0 6 rfl rfl)
theorem dX9_year_7 : decode cX9_year 7 = .ok (.aload_n 3, 1) := dk_45 (dk_at dksX9_year_0 7 rfl rfl)
theorem dX9_year_8 : decode cX9_year 8 = .ok (.ifnull 10, 3) := dk_198 0 10 (dk_at dksX9_year_0 8 rfl rfl)
theorem dX9_year_11 : decode cX9_year 11 = .ok (.aload_n 3, 1) := dk_45 (dk_at dksX9_year_0 11 rfl rfl)
theorem dX9_year_12 : decode cX9_year 12 = .ok (.getfield 190, 3) := dk_180 0 190 (dk_at dksX9_year_0 12 rfl rfl)
theorem dX9_year_15 : decode cX9_year 15 = .ok (.goto 14, 3) := dk_167 0 14 (dk_at dksX9_year_0 15 rfl rfl)
theorem dX9_year_18 : decode cX9_year 18 = .ok (.iload_n 2, 1) := dk_28 (dk_at dksX9_year_0 18 rfl rfl)
theorem dX9_year_19 : decode cX9_year 19 = .ok (.ifCond .eq 9, 3) := dk_153 0 9 (dk_at dksX9_year_0 19 rfl rfl)
theorem dX9_year_22 : decode cX9_year 22 = .ok (.sipush 30000, 3) := dk_17 117 48 (dk_at dksX9_year_1 0 rfl rfl)
theorem dX9_year_25 : decode cX9_year 25 = .ok (.goto 4, 3) := dk_167 0 4 (dk_at dksX9_year_1 3 rfl rfl)
theorem dX9_year_28 : decode cX9_year 28 = .ok (.iconst 0, 1) := dk_3 (dk_at dksX9_year_1 6 rfl rfl)
theorem dX9_year_29 : decode cX9_year 29 = .ok (.ireturn, 1) := dk_172 (dk_at dksX9_year_1 7 rfl rfl)
abbrev cX9_bound : ByteArray := prog_12_method_12_code
def yX9_bound : MethodName := ⟨RX9, "bound", "(LFigureSurvey$Figure;Z)LFigureSurvey$Bound;"⟩
def dkwX9_bound_2 : List UInt8 := [183, 0, 173, 182, 0, 192, 192, 0, 168, 176]
abbrev dktX9_bound_2 : List UInt8 := dkwX9_bound_2 ++ []
def dkwX9_bound_1 : List UInt8 := [192, 0, 168, 167, 0, 28, 45, 187, 0, 168, 89, 45, 182, 0, 187, 192, 0, 168, 180, 0, 190, 3]
abbrev dktX9_bound_1 : List UInt8 := dkwX9_bound_1 ++ dktX9_bound_2
def dkwX9_bound_0 : List UInt8 := [42, 43, 28, 182, 0, 177, 78, 45, 182, 0, 181, 153, 0, 5, 1, 176, 28, 153, 0, 13, 45, 182, 0, 184]
abbrev dktX9_bound_0 : List UInt8 := dkwX9_bound_0 ++ dktX9_bound_1
theorem dksX9_bound_0 : cX9_bound.data.toList.drop 0 = dktX9_bound_0 := by decide +kernel
theorem dksX9_bound_1 : cX9_bound.data.toList.drop 24 = dktX9_bound_1 := dk_seg dksX9_bound_0 24 rfl rfl
theorem dksX9_bound_2 : cX9_bound.data.toList.drop 46 = dktX9_bound_2 := dk_seg dksX9_bound_1 22 rfl rfl
theorem dX9_bound_0 : decode cX9_bound 0 = .ok (.aload_n 0, 1) := dk_42 (dk_at dksX9_bound_0 0 rfl rfl)
theorem dX9_bound_1 : decode cX9_bound 1 = .ok (.aload_n 1, 1) := dk_43 (dk_at dksX9_bound_0 1 rfl rfl)
theorem dX9_bound_2 : decode cX9_bound 2 = .ok (.iload_n 2, 1) := dk_28 (dk_at dksX9_bound_0 2 rfl rfl)
theorem dX9_bound_3 : decode cX9_bound 3 = .ok (.invokevirtual 177, 3) := dk_182 0 177 (dk_at dksX9_bound_0 3 rfl rfl)
theorem dX9_bound_6 : decode cX9_bound 6 = .ok (.astore_n 3, 1) := dk_78 (dk_at dksX9_bound_0 6 rfl rfl)
theorem dX9_bound_7 : decode cX9_bound 7 = .ok (.aload_n 3, 1) := dk_45 (dk_at dksX9_bound_0 7 rfl rfl)
theorem dX9_bound_8 : decode cX9_bound 8 = .ok (.invokevirtual 181, 3) := dk_182 0 181 (dk_at dksX9_bound_0 8 rfl rfl)
theorem dX9_bound_11 : decode cX9_bound 11 = .ok (.ifCond .eq 5, 3) := dk_153 0 5 (dk_at dksX9_bound_0 11 rfl rfl)
theorem dX9_bound_14 : decode cX9_bound 14 = .ok (.aconst_null, 1) := dk_1 (dk_at dksX9_bound_0 14 rfl rfl)
theorem dX9_bound_15 : decode cX9_bound 15 = .ok (.areturn, 1) := dk_176 (dk_at dksX9_bound_0 15 rfl rfl)
theorem dX9_bound_16 : decode cX9_bound 16 = .ok (.iload_n 2, 1) := dk_28 (dk_at dksX9_bound_0 16 rfl rfl)
theorem dX9_bound_17 : decode cX9_bound 17 = .ok (.ifCond .eq 13, 3) := dk_153 0 13 (dk_at dksX9_bound_0 17 rfl rfl)
theorem dX9_bound_20 : decode cX9_bound 20 = .ok (.aload_n 3, 1) := dk_45 (dk_at dksX9_bound_0 20 rfl rfl)
theorem dX9_bound_21 : decode cX9_bound 21 = .ok (.invokevirtual 184, 3) := dk_182 0 184 (dk_at dksX9_bound_0 21 rfl rfl)
theorem dX9_bound_24 : decode cX9_bound 24 = .ok (.checkcast 168, 3) := dk_192 0 168 (dk_at dksX9_bound_1 0 rfl rfl)
theorem dX9_bound_27 : decode cX9_bound 27 = .ok (.goto 28, 3) := dk_167 0 28 (dk_at dksX9_bound_1 3 rfl rfl)
theorem dX9_bound_30 : decode cX9_bound 30 = .ok (.aload_n 3, 1) := dk_45 (dk_at dksX9_bound_1 6 rfl rfl)
theorem dX9_bound_31 : decode cX9_bound 31 = .ok (.new 168, 3) := dk_187 0 168 (dk_at dksX9_bound_1 7 rfl rfl)
theorem dX9_bound_34 : decode cX9_bound 34 = .ok (.dup, 1) := dk_89 (dk_at dksX9_bound_1 10 rfl rfl)
theorem dX9_bound_35 : decode cX9_bound 35 = .ok (.aload_n 3, 1) := dk_45 (dk_at dksX9_bound_1 11 rfl rfl)
theorem dX9_bound_36 : decode cX9_bound 36 = .ok (.invokevirtual 187, 3) := dk_182 0 187 (dk_at dksX9_bound_1 12 rfl rfl)
theorem dX9_bound_39 : decode cX9_bound 39 = .ok (.checkcast 168, 3) := dk_192 0 168 (dk_at dksX9_bound_1 15 rfl rfl)
theorem dX9_bound_42 : decode cX9_bound 42 = .ok (.getfield 190, 3) := dk_180 0 190 (dk_at dksX9_bound_1 18 rfl rfl)
theorem dX9_bound_45 : decode cX9_bound 45 = .ok (.iconst 0, 1) := dk_3 (dk_at dksX9_bound_1 21 rfl rfl)
theorem dX9_bound_46 : decode cX9_bound 46 = .ok (.invokespecial 173, 3) := dk_183 0 173 (dk_at dksX9_bound_2 0 rfl rfl)
theorem dX9_bound_49 : decode cX9_bound 49 = .ok (.invokevirtual 192, 3) := dk_182 0 192 (dk_at dksX9_bound_2 3 rfl rfl)
theorem dX9_bound_52 : decode cX9_bound 52 = .ok (.checkcast 168, 3) := dk_192 0 168 (dk_at dksX9_bound_2 6 rfl rfl)
theorem dX9_bound_55 : decode cX9_bound 55 = .ok (.areturn, 1) := dk_176 (dk_at dksX9_bound_2 9 rfl rfl)
abbrev cX9_bounds : ByteArray := prog_12_method_11_code
def yX9_bounds : MethodName := ⟨RX9, "bounds", "(LFigureSurvey$Figure;Z)Ljava/util/TreeSet;"⟩
def dkwX9_bounds_7 : List UInt8 := [132, 5, 1, 167, 255, 109, 45, 176]
abbrev dktX9_bounds_7 : List UInt8 := dkwX9_bounds_7 ++ []
def dkwX9_bounds_6 : List UInt8 := [187, 0, 168, 89, 25, 6, 182, 0, 152, 25, 6, 180, 0, 170, 183, 0, 173, 182, 0, 176, 54, 9]
abbrev dktX9_bounds_6 : List UInt8 := dkwX9_bounds_6 ++ dktX9_bounds_7
def dkwX9_bounds_5 : List UInt8 := [154, 0, 44, 25, 6, 180, 0, 85, 4, 160, 0, 7, 4, 167, 0, 4, 3, 28, 159, 0, 26, 45]
abbrev dktX9_bounds_5 : List UInt8 := dkwX9_bounds_5 ++ dktX9_bounds_6
def dkwX9_bounds_4 : List UInt8 := [21, 7, 51, 153, 0, 7, 4, 167, 0, 4, 3, 54, 8, 21, 8, 153, 0, 53, 42, 25, 6, 182, 0, 106]
abbrev dktX9_bounds_4 : List UInt8 := dkwX9_bounds_4 ++ dktX9_bounds_5
def dkwX9_bounds_3 : List UInt8 := [42, 180, 0, 103, 21, 7, 50, 21, 4, 51, 153, 0, 23, 167, 0, 16, 42, 180, 0, 103, 21, 4, 50]
abbrev dktX9_bounds_3 : List UInt8 := dkwX9_bounds_3 ++ dktX9_bounds_4
def dkwX9_bounds_2 : List UInt8 := [58, 6, 42, 25, 6, 180, 0, 109, 182, 0, 113, 54, 7, 21, 7, 21, 4, 159, 0, 36, 28, 153, 0, 19]
abbrev dktX9_bounds_2 : List UInt8 := dkwX9_bounds_2 ++ dktX9_bounds_3
def dkwX9_bounds_1 : List UInt8 := [182, 0, 35, 162, 0, 141, 21, 4, 155, 0, 136, 42, 180, 0, 25, 21, 5, 182, 0, 39, 192, 0, 79]
abbrev dktX9_bounds_1 : List UInt8 := dkwX9_bounds_1 ++ dktX9_bounds_2
def dkwX9_bounds_0 : List UInt8 := [187, 0, 165, 89, 183, 0, 167, 78, 42, 43, 182, 0, 113, 54, 4, 3, 54, 5, 21, 5, 42, 180, 0, 25]
abbrev dktX9_bounds_0 : List UInt8 := dkwX9_bounds_0 ++ dktX9_bounds_1
theorem dksX9_bounds_0 : cX9_bounds.data.toList.drop 0 = dktX9_bounds_0 := by decide +kernel
theorem dksX9_bounds_1 : cX9_bounds.data.toList.drop 24 = dktX9_bounds_1 := dk_seg dksX9_bounds_0 24 rfl rfl
theorem dksX9_bounds_2 : cX9_bounds.data.toList.drop 47 = dktX9_bounds_2 := dk_seg dksX9_bounds_1 23 rfl rfl
theorem dksX9_bounds_3 : cX9_bounds.data.toList.drop 71 = dktX9_bounds_3 := dk_seg dksX9_bounds_2 24 rfl rfl
theorem dksX9_bounds_4 : cX9_bounds.data.toList.drop 94 = dktX9_bounds_4 := dk_seg dksX9_bounds_3 23 rfl rfl
theorem dksX9_bounds_5 : cX9_bounds.data.toList.drop 118 = dktX9_bounds_5 := dk_seg dksX9_bounds_4 24 rfl rfl
theorem dksX9_bounds_6 : cX9_bounds.data.toList.drop 140 = dktX9_bounds_6 := dk_seg dksX9_bounds_5 22 rfl rfl
theorem dksX9_bounds_7 : cX9_bounds.data.toList.drop 162 = dktX9_bounds_7 := dk_seg dksX9_bounds_6 22 rfl rfl
theorem dX9_bounds_0 : decode cX9_bounds 0 = .ok (.new 165, 3) := dk_187 0 165 (dk_at dksX9_bounds_0 0 rfl rfl)
theorem dX9_bounds_3 : decode cX9_bounds 3 = .ok (.dup, 1) := dk_89 (dk_at dksX9_bounds_0 3 rfl rfl)
theorem dX9_bounds_4 : decode cX9_bounds 4 = .ok (.invokespecial 167, 3) := dk_183 0 167 (dk_at dksX9_bounds_0 4 rfl rfl)
theorem dX9_bounds_7 : decode cX9_bounds 7 = .ok (.astore_n 3, 1) := dk_78 (dk_at dksX9_bounds_0 7 rfl rfl)
theorem dX9_bounds_8 : decode cX9_bounds 8 = .ok (.aload_n 0, 1) := dk_42 (dk_at dksX9_bounds_0 8 rfl rfl)
theorem dX9_bounds_9 : decode cX9_bounds 9 = .ok (.aload_n 1, 1) := dk_43 (dk_at dksX9_bounds_0 9 rfl rfl)
theorem dX9_bounds_10 : decode cX9_bounds 10 = .ok (.invokevirtual 113, 3) := dk_182 0 113 (dk_at dksX9_bounds_0 10 rfl rfl)
theorem dX9_bounds_13 : decode cX9_bounds 13 = .ok (.istore 4, 2) := dk_54 4 (dk_at dksX9_bounds_0 13 rfl rfl)
theorem dX9_bounds_15 : decode cX9_bounds 15 = .ok (.iconst 0, 1) := dk_3 (dk_at dksX9_bounds_0 15 rfl rfl)
theorem dX9_bounds_16 : decode cX9_bounds 16 = .ok (.istore 5, 2) := dk_54 5 (dk_at dksX9_bounds_0 16 rfl rfl)
theorem dX9_bounds_18 : decode cX9_bounds 18 = .ok (.iload 5, 2) := dk_21 5 (dk_at dksX9_bounds_0 18 rfl rfl)
theorem dX9_bounds_20 : decode cX9_bounds 20 = .ok (.aload_n 0, 1) := dk_42 (dk_at dksX9_bounds_0 20 rfl rfl)
theorem dX9_bounds_21 : decode cX9_bounds 21 = .ok (.getfield 25, 3) := dk_180 0 25 (dk_at dksX9_bounds_0 21 rfl rfl)
theorem dX9_bounds_24 : decode cX9_bounds 24 = .ok (.invokevirtual 35, 3) := dk_182 0 35 (dk_at dksX9_bounds_1 0 rfl rfl)
theorem dX9_bounds_27 : decode cX9_bounds 27 = .ok (.if_icmp .ge 141, 3) := dk_162 0 141 (dk_at dksX9_bounds_1 3 rfl rfl)
theorem dX9_bounds_30 : decode cX9_bounds 30 = .ok (.iload 4, 2) := dk_21 4 (dk_at dksX9_bounds_1 6 rfl rfl)
theorem dX9_bounds_32 : decode cX9_bounds 32 = .ok (.ifCond .lt 136, 3) := dk_155 0 136 (dk_at dksX9_bounds_1 8 rfl rfl)
theorem dX9_bounds_35 : decode cX9_bounds 35 = .ok (.aload_n 0, 1) := dk_42 (dk_at dksX9_bounds_1 11 rfl rfl)
theorem dX9_bounds_36 : decode cX9_bounds 36 = .ok (.getfield 25, 3) := dk_180 0 25 (dk_at dksX9_bounds_1 12 rfl rfl)
theorem dX9_bounds_39 : decode cX9_bounds 39 = .ok (.iload 5, 2) := dk_21 5 (dk_at dksX9_bounds_1 15 rfl rfl)
theorem dX9_bounds_41 : decode cX9_bounds 41 = .ok (.invokevirtual 39, 3) := dk_182 0 39 (dk_at dksX9_bounds_1 17 rfl rfl)
theorem dX9_bounds_44 : decode cX9_bounds 44 = .ok (.checkcast 79, 3) := dk_192 0 79 (dk_at dksX9_bounds_1 20 rfl rfl)
theorem dX9_bounds_47 : decode cX9_bounds 47 = .ok (.astore 6, 2) := dk_58 6 (dk_at dksX9_bounds_2 0 rfl rfl)
theorem dX9_bounds_49 : decode cX9_bounds 49 = .ok (.aload_n 0, 1) := dk_42 (dk_at dksX9_bounds_2 2 rfl rfl)
theorem dX9_bounds_50 : decode cX9_bounds 50 = .ok (.aload 6, 2) := dk_25 6 (dk_at dksX9_bounds_2 3 rfl rfl)
theorem dX9_bounds_52 : decode cX9_bounds 52 = .ok (.getfield 109, 3) := dk_180 0 109 (dk_at dksX9_bounds_2 5 rfl rfl)
theorem dX9_bounds_55 : decode cX9_bounds 55 = .ok (.invokevirtual 113, 3) := dk_182 0 113 (dk_at dksX9_bounds_2 8 rfl rfl)
theorem dX9_bounds_58 : decode cX9_bounds 58 = .ok (.istore 7, 2) := dk_54 7 (dk_at dksX9_bounds_2 11 rfl rfl)
theorem dX9_bounds_60 : decode cX9_bounds 60 = .ok (.iload 7, 2) := dk_21 7 (dk_at dksX9_bounds_2 13 rfl rfl)
theorem dX9_bounds_62 : decode cX9_bounds 62 = .ok (.iload 4, 2) := dk_21 4 (dk_at dksX9_bounds_2 15 rfl rfl)
theorem dX9_bounds_64 : decode cX9_bounds 64 = .ok (.if_icmp .eq 36, 3) := dk_159 0 36 (dk_at dksX9_bounds_2 17 rfl rfl)
theorem dX9_bounds_67 : decode cX9_bounds 67 = .ok (.iload_n 2, 1) := dk_28 (dk_at dksX9_bounds_2 20 rfl rfl)
theorem dX9_bounds_68 : decode cX9_bounds 68 = .ok (.ifCond .eq 19, 3) := dk_153 0 19 (dk_at dksX9_bounds_2 21 rfl rfl)
theorem dX9_bounds_71 : decode cX9_bounds 71 = .ok (.aload_n 0, 1) := dk_42 (dk_at dksX9_bounds_3 0 rfl rfl)
theorem dX9_bounds_72 : decode cX9_bounds 72 = .ok (.getfield 103, 3) := dk_180 0 103 (dk_at dksX9_bounds_3 1 rfl rfl)
theorem dX9_bounds_75 : decode cX9_bounds 75 = .ok (.iload 7, 2) := dk_21 7 (dk_at dksX9_bounds_3 4 rfl rfl)
theorem dX9_bounds_77 : decode cX9_bounds 77 = .ok (.aaload, 1) := dk_50 (dk_at dksX9_bounds_3 6 rfl rfl)
theorem dX9_bounds_78 : decode cX9_bounds 78 = .ok (.iload 4, 2) := dk_21 4 (dk_at dksX9_bounds_3 7 rfl rfl)
theorem dX9_bounds_80 : decode cX9_bounds 80 = .ok (.baload, 1) := dk_51 (dk_at dksX9_bounds_3 9 rfl rfl)
theorem dX9_bounds_81 : decode cX9_bounds 81 = .ok (.ifCond .eq 23, 3) := dk_153 0 23 (dk_at dksX9_bounds_3 10 rfl rfl)
theorem dX9_bounds_84 : decode cX9_bounds 84 = .ok (.goto 16, 3) := dk_167 0 16 (dk_at dksX9_bounds_3 13 rfl rfl)
theorem dX9_bounds_87 : decode cX9_bounds 87 = .ok (.aload_n 0, 1) := dk_42 (dk_at dksX9_bounds_3 16 rfl rfl)
theorem dX9_bounds_88 : decode cX9_bounds 88 = .ok (.getfield 103, 3) := dk_180 0 103 (dk_at dksX9_bounds_3 17 rfl rfl)
theorem dX9_bounds_91 : decode cX9_bounds 91 = .ok (.iload 4, 2) := dk_21 4 (dk_at dksX9_bounds_3 20 rfl rfl)
theorem dX9_bounds_93 : decode cX9_bounds 93 = .ok (.aaload, 1) := dk_50 (dk_at dksX9_bounds_3 22 rfl rfl)
theorem dX9_bounds_94 : decode cX9_bounds 94 = .ok (.iload 7, 2) := dk_21 7 (dk_at dksX9_bounds_4 0 rfl rfl)
theorem dX9_bounds_96 : decode cX9_bounds 96 = .ok (.baload, 1) := dk_51 (dk_at dksX9_bounds_4 2 rfl rfl)
theorem dX9_bounds_97 : decode cX9_bounds 97 = .ok (.ifCond .eq 7, 3) := dk_153 0 7 (dk_at dksX9_bounds_4 3 rfl rfl)
theorem dX9_bounds_100 : decode cX9_bounds 100 = .ok (.iconst 1, 1) := dk_4 (dk_at dksX9_bounds_4 6 rfl rfl)
theorem dX9_bounds_101 : decode cX9_bounds 101 = .ok (.goto 4, 3) := dk_167 0 4 (dk_at dksX9_bounds_4 7 rfl rfl)
theorem dX9_bounds_104 : decode cX9_bounds 104 = .ok (.iconst 0, 1) := dk_3 (dk_at dksX9_bounds_4 10 rfl rfl)
theorem dX9_bounds_105 : decode cX9_bounds 105 = .ok (.istore 8, 2) := dk_54 8 (dk_at dksX9_bounds_4 11 rfl rfl)
theorem dX9_bounds_107 : decode cX9_bounds 107 = .ok (.iload 8, 2) := dk_21 8 (dk_at dksX9_bounds_4 13 rfl rfl)
theorem dX9_bounds_109 : decode cX9_bounds 109 = .ok (.ifCond .eq 53, 3) := dk_153 0 53 (dk_at dksX9_bounds_4 15 rfl rfl)
theorem dX9_bounds_112 : decode cX9_bounds 112 = .ok (.aload_n 0, 1) := dk_42 (dk_at dksX9_bounds_4 18 rfl rfl)
theorem dX9_bounds_113 : decode cX9_bounds 113 = .ok (.aload 6, 2) := dk_25 6 (dk_at dksX9_bounds_4 19 rfl rfl)
theorem dX9_bounds_115 : decode cX9_bounds 115 = .ok (.invokevirtual 106, 3) := dk_182 0 106 (dk_at dksX9_bounds_4 21 rfl rfl)
theorem dX9_bounds_118 : decode cX9_bounds 118 = .ok (.ifCond .ne 44, 3) := dk_154 0 44 (dk_at dksX9_bounds_5 0 rfl rfl)
theorem dX9_bounds_121 : decode cX9_bounds 121 = .ok (.aload 6, 2) := dk_25 6 (dk_at dksX9_bounds_5 3 rfl rfl)
theorem dX9_bounds_123 : decode cX9_bounds 123 = .ok (.getfield 85, 3) := dk_180 0 85 (dk_at dksX9_bounds_5 5 rfl rfl)
theorem dX9_bounds_126 : decode cX9_bounds 126 = .ok (.iconst 1, 1) := dk_4 (dk_at dksX9_bounds_5 8 rfl rfl)
theorem dX9_bounds_127 : decode cX9_bounds 127 = .ok (.if_icmp .ne 7, 3) := dk_160 0 7 (dk_at dksX9_bounds_5 9 rfl rfl)
theorem dX9_bounds_130 : decode cX9_bounds 130 = .ok (.iconst 1, 1) := dk_4 (dk_at dksX9_bounds_5 12 rfl rfl)
theorem dX9_bounds_131 : decode cX9_bounds 131 = .ok (.goto 4, 3) := dk_167 0 4 (dk_at dksX9_bounds_5 13 rfl rfl)
theorem dX9_bounds_134 : decode cX9_bounds 134 = .ok (.iconst 0, 1) := dk_3 (dk_at dksX9_bounds_5 16 rfl rfl)
theorem dX9_bounds_135 : decode cX9_bounds 135 = .ok (.iload_n 2, 1) := dk_28 (dk_at dksX9_bounds_5 17 rfl rfl)
theorem dX9_bounds_136 : decode cX9_bounds 136 = .ok (.if_icmp .eq 26, 3) := dk_159 0 26 (dk_at dksX9_bounds_5 18 rfl rfl)
theorem dX9_bounds_139 : decode cX9_bounds 139 = .ok (.aload_n 3, 1) := dk_45 (dk_at dksX9_bounds_5 21 rfl rfl)
theorem dX9_bounds_140 : decode cX9_bounds 140 = .ok (.new 168, 3) := dk_187 0 168 (dk_at dksX9_bounds_6 0 rfl rfl)
theorem dX9_bounds_143 : decode cX9_bounds 143 = .ok (.dup, 1) := dk_89 (dk_at dksX9_bounds_6 3 rfl rfl)
theorem dX9_bounds_144 : decode cX9_bounds 144 = .ok (.aload 6, 2) := dk_25 6 (dk_at dksX9_bounds_6 4 rfl rfl)
theorem dX9_bounds_146 : decode cX9_bounds 146 = .ok (.invokevirtual 152, 3) := dk_182 0 152 (dk_at dksX9_bounds_6 6 rfl rfl)
theorem dX9_bounds_149 : decode cX9_bounds 149 = .ok (.aload 6, 2) := dk_25 6 (dk_at dksX9_bounds_6 9 rfl rfl)
theorem dX9_bounds_151 : decode cX9_bounds 151 = .ok (.getfield 170, 3) := dk_180 0 170 (dk_at dksX9_bounds_6 11 rfl rfl)
theorem dX9_bounds_154 : decode cX9_bounds 154 = .ok (.invokespecial 173, 3) := dk_183 0 173 (dk_at dksX9_bounds_6 14 rfl rfl)
theorem dX9_bounds_157 : decode cX9_bounds 157 = .ok (.invokevirtual 176, 3) := dk_182 0 176 (dk_at dksX9_bounds_6 17 rfl rfl)
theorem dX9_bounds_160 : decode cX9_bounds 160 = .ok (.istore 9, 2) := dk_54 9 (dk_at dksX9_bounds_6 20 rfl rfl)
theorem dX9_bounds_162 : decode cX9_bounds 162 = .ok (.iinc 5 1, 3) := dk_132 5 1 (dk_at dksX9_bounds_7 0 rfl rfl)
theorem dX9_bounds_165 : decode cX9_bounds 165 = .ok (.goto (-147), 3) := dk_167 255 109 (dk_at dksX9_bounds_7 3 rfl rfl)
theorem dX9_bounds_168 : decode cX9_bounds 168 = .ok (.aload_n 3, 1) := dk_45 (dk_at dksX9_bounds_7 6 rfl rfl)
theorem dX9_bounds_169 : decode cX9_bounds 169 = .ok (.areturn, 1) := dk_176 (dk_at dksX9_bounds_7 7 rfl rfl)
theorem q120 : (Jvm.Cond.initialized "FigureSurvey$Scene") ∈ lw_all := lw_g (lw_at lw_m1 47 rfl) rfl
theorem q212 : (Jvm.Cond.fieldLinkNest "FigureSurvey$Scene" (32 : Nat) "FigureSurvey" "figures" "Ljava/util/ArrayList;" "FigureSurvey") ∈ lw_tbl := lw_at lw_m1 139 rfl
theorem q215 : (Jvm.Cond.fieldLinkNest "FigureSurvey$Scene" (54 : Nat) "FigureSurvey" "findings" "Ljava/util/TreeMap;" "FigureSurvey") ∈ lw_tbl := lw_at lw_m1 142 rfl
theorem q444 : (Jvm.Cond.selects "FigureSurvey$Scene" ({ cls := "java/lang/Object", name := "getClass", desc := "()Ljava/lang/Class;" } : Jvm.MethodName) ({ cls := "java/lang/Object", name := "getClass", desc := "()Ljava/lang/Class;" } : Jvm.MethodName)) ∈ lw_all := lw_g (lw_at lw_m2 131 rfl) rfl
theorem q863 : (Jvm.Cond.instantiable "FigureSurvey$Scene" (8 : Nat)) ∈ lw_all := lw_g (lw_at lw_m4 70 rfl) rfl
theorem q865 : (Jvm.Cond.instanceMethod ({ cls := "FigureSurvey$Scene", name := "<init>", desc := "(LFigureSurvey;LFigureSurvey$Panel;)V" } : Jvm.MethodName)) ∈ lw_all := lw_g (lw_at lw_m4 72 rfl) rfl
theorem q866 : (Jvm.Cond.code ({ cls := "FigureSurvey$Scene", name := "<init>", desc := "(LFigureSurvey;LFigureSurvey$Panel;)V" } : Jvm.MethodName) prog_12_method_1_code (5 : Nat) (Option.none : Option Jvm.ClassFile.FieldType)) ∈ lw_all := lw_g (lw_at lw_m4 73 rfl) rfl
theorem q867 : (Jvm.Cond.methodLink "FigureSurvey$Scene" (9 : Nat) ({ cls := "java/lang/Object", name := "<init>", desc := "()V" } : Jvm.MethodName)) ∈ lw_all := lw_g (lw_at lw_m4 74 rfl) rfl
theorem q868 : (Jvm.Cond.classLink "FigureSurvey$Scene" (15 : Nat) "java/util/ArrayList") ∈ lw_all := lw_g (lw_at lw_m4 75 rfl) rfl
theorem q869 : (Jvm.Cond.methodLink "FigureSurvey$Scene" (17 : Nat) ({ cls := "java/util/ArrayList", name := "<init>", desc := "()V" } : Jvm.MethodName)) ∈ lw_all := lw_g (lw_at lw_m4 76 rfl) rfl
theorem q870 : (Jvm.Cond.methodLink "FigureSurvey$Scene" (35 : Nat) ({ cls := "java/util/ArrayList", name := "size", desc := "()I" } : Jvm.MethodName)) ∈ lw_all := lw_g (lw_at lw_m4 77 rfl) rfl
theorem q871 : (Jvm.Cond.methodLink "FigureSurvey$Scene" (39 : Nat) ({ cls := "java/util/ArrayList", name := "get", desc := "(I)Ljava/lang/Object;" } : Jvm.MethodName)) ∈ lw_all := lw_g (lw_at lw_m4 78 rfl) rfl
theorem q872 : (Jvm.Cond.classLink "FigureSurvey$Scene" (43 : Nat) "FigureSurvey$Figure") ∈ lw_all := lw_g (lw_at lw_m4 79 rfl) rfl
theorem q873 : (Jvm.Cond.methodLink "FigureSurvey$Scene" (46 : Nat) ({ cls := "FigureSurvey$Figure", name := "isGenuine", desc := "()Z" } : Jvm.MethodName)) ∈ lw_all := lw_g (lw_at lw_m4 80 rfl) rfl
theorem q874 : (Jvm.Cond.methodLink "FigureSurvey$Scene" (50 : Nat) ({ cls := "java/util/ArrayList", name := "add", desc := "(Ljava/lang/Object;)Z" } : Jvm.MethodName)) ∈ lw_all := lw_g (lw_at lw_m4 81 rfl) rfl
theorem q894 : (Jvm.Cond.methodLink "FigureSurvey$Scene" (58 : Nat) ({ cls := "java/util/TreeMap", name := "values", desc := "()Ljava/util/Collection;" } : Jvm.MethodName)) ∈ lw_all := lw_g (lw_at lw_m4 101 rfl) rfl
theorem q908 : (Jvm.Cond.interfaceEntry "FigureSurvey$Scene" (64 : Nat)) ∈ lw_tbl := lw_at lw_m4 115 rfl
theorem q909 : (Jvm.Cond.methodLink "FigureSurvey$Scene" (64 : Nat) ({ cls := "java/util/Collection", name := "iterator", desc := "()Ljava/util/Iterator;" } : Jvm.MethodName)) ∈ lw_all := lw_g (lw_at lw_m4 116 rfl) rfl
theorem q1081 : (Jvm.Cond.interfaceEntry "FigureSurvey$Scene" (70 : Nat)) ∈ lw_tbl := lw_at lw_m5 48 rfl
theorem q1082 : (Jvm.Cond.methodLink "FigureSurvey$Scene" (70 : Nat) ({ cls := "java/util/Iterator", name := "hasNext", desc := "()Z" } : Jvm.MethodName)) ∈ lw_all := lw_g (lw_at lw_m5 49 rfl) rfl
theorem q1113 : (Jvm.Cond.interfaceEntry "FigureSurvey$Scene" (75 : Nat)) ∈ lw_tbl := lw_at lw_m5 80 rfl
theorem q1114 : (Jvm.Cond.methodLink "FigureSurvey$Scene" (75 : Nat) ({ cls := "java/util/Iterator", name := "next", desc := "()Ljava/lang/Object;" } : Jvm.MethodName)) ∈ lw_all := lw_g (lw_at lw_m5 81 rfl) rfl
theorem q1179 : (Jvm.Cond.classLink "FigureSurvey$Scene" (79 : Nat) "FigureSurvey$Finding") ∈ lw_all := lw_g (lw_at lw_m5 146 rfl) rfl
theorem q1180 : (Jvm.Cond.methodLink "FigureSurvey$Scene" (81 : Nat) ({ cls := "FigureSurvey$Scene", name := "counts", desc := "(LFigureSurvey$Finding;)Z" } : Jvm.MethodName)) ∈ lw_all := lw_g (lw_at lw_m5 147 rfl) rfl
theorem q1181 : (Jvm.Cond.instanceMethod ({ cls := "FigureSurvey$Scene", name := "counts", desc := "(LFigureSurvey$Finding;)Z" } : Jvm.MethodName)) ∈ lw_all := lw_g (lw_at lw_m5 148 rfl) rfl
theorem q1182 : (Jvm.Cond.selects "FigureSurvey$Scene" ({ cls := "FigureSurvey$Scene", name := "counts", desc := "(LFigureSurvey$Finding;)Z" } : Jvm.MethodName) ({ cls := "FigureSurvey$Scene", name := "counts", desc := "(LFigureSurvey$Finding;)Z" } : Jvm.MethodName)) ∈ lw_all := lw_g (lw_at lw_m5 149 rfl) rfl
theorem q1183 : (Jvm.Cond.code ({ cls := "FigureSurvey$Scene", name := "counts", desc := "(LFigureSurvey$Finding;)Z" } : Jvm.MethodName) prog_12_method_3_code (2 : Nat) (Option.some Jvm.ClassFile.FieldType.boolean)) ∈ lw_all := lw_g (lw_at lw_m5 150 rfl) rfl
theorem q1184 : (Jvm.Cond.methodLink "FigureSurvey$Scene" (137 : Nat) ({ cls := "FigureSurvey$Finding", name := "isOf", desc := "(LFigureSurvey$Panel;)Z" } : Jvm.MethodName)) ∈ lw_all := lw_g (lw_at lw_m5 151 rfl) rfl
theorem q1188 : (Jvm.Cond.methodLink "FigureSurvey$Scene" (113 : Nat) ({ cls := "FigureSurvey$Scene", name := "index", desc := "(LFigureSurvey$Figure;)I" } : Jvm.MethodName)) ∈ lw_all := lw_g (lw_at lw_m5 155 rfl) rfl
theorem q1189 : (Jvm.Cond.instanceMethod ({ cls := "FigureSurvey$Scene", name := "index", desc := "(LFigureSurvey$Figure;)I" } : Jvm.MethodName)) ∈ lw_all := lw_g (lw_at lw_m5 156 rfl) rfl
theorem q1190 : (Jvm.Cond.selects "FigureSurvey$Scene" ({ cls := "FigureSurvey$Scene", name := "index", desc := "(LFigureSurvey$Figure;)I" } : Jvm.MethodName) ({ cls := "FigureSurvey$Scene", name := "index", desc := "(LFigureSurvey$Figure;)I" } : Jvm.MethodName)) ∈ lw_all := lw_g (lw_at lw_m5 157 rfl) rfl
theorem q1191 : (Jvm.Cond.code ({ cls := "FigureSurvey$Scene", name := "index", desc := "(LFigureSurvey$Figure;)I" } : Jvm.MethodName) prog_12_method_2_code (2 : Nat) (Option.some Jvm.ClassFile.FieldType.int)) ∈ lw_all := lw_g (lw_at lw_m5 158 rfl) rfl
theorem q1192 : (Jvm.Cond.methodLink "FigureSurvey$Scene" (133 : Nat) ({ cls := "java/util/ArrayList", name := "indexOf", desc := "(Ljava/lang/Object;)I" } : Jvm.MethodName)) ∈ lw_all := lw_g (lw_at lw_m5 159 rfl) rfl
theorem q1214 : (Jvm.Cond.selects "FigureSurvey$Scene" ({ cls := "java/lang/Object", name := "equals", desc := "(Ljava/lang/Object;)Z" } : Jvm.MethodName) ({ cls := "java/lang/Object", name := "equals", desc := "(Ljava/lang/Object;)Z" } : Jvm.MethodName)) ∈ lw_all := lw_g (lw_at lw_m5 181 rfl) rfl
theorem q1240 : (Jvm.Cond.privateMethod ({ cls := "FigureSurvey$Scene", name := "price", desc := "(II)I" } : Jvm.MethodName)) ∈ lw_tbl := lw_at lw_m5 207 rfl
theorem q1241 : (Jvm.Cond.instanceMethod ({ cls := "FigureSurvey$Scene", name := "price", desc := "(II)I" } : Jvm.MethodName)) ∈ lw_all := lw_g (lw_at lw_m5 208 rfl) rfl
theorem q1242 : (Jvm.Cond.code ({ cls := "FigureSurvey$Scene", name := "price", desc := "(II)I" } : Jvm.MethodName) prog_12_method_4_code (6 : Nat) (Option.some Jvm.ClassFile.FieldType.int)) ∈ lw_all := lw_g (lw_at lw_m5 209 rfl) rfl
theorem q1243 : (Jvm.Cond.methodLinkNest "FigureSurvey$Scene" (141 : Nat) ({ cls := "FigureSurvey", name := "has", desc := "(II)Z" } : Jvm.MethodName) "FigureSurvey") ∈ lw_tbl := lw_at lw_m5 210 rfl
theorem q1246 : (Jvm.Cond.methodLinkNest "FigureSurvey$Scene" (93 : Nat) ({ cls := "FigureSurvey", name := "bestRow", desc := "(ILFigureSurvey$Price;)[I" } : Jvm.MethodName) "FigureSurvey") ∈ lw_tbl := lw_at lw_m5 213 rfl
theorem q1257 : (Jvm.Cond.classLink "FigureSurvey$Scene" (101 : Nat) "[[Z") ∈ lw_all := lw_g (lw_at lw_m5 224 rfl) rfl
theorem q1259 : (Jvm.Cond.methodLink "FigureSurvey$Scene" (106 : Nat) ({ cls := "FigureSurvey$Scene", name := "isBroken", desc := "(LFigureSurvey$Finding;)Z" } : Jvm.MethodName)) ∈ lw_all := lw_g (lw_at lw_m5 226 rfl) rfl
theorem q1260 : (Jvm.Cond.instanceMethod ({ cls := "FigureSurvey$Scene", name := "isBroken", desc := "(LFigureSurvey$Finding;)Z" } : Jvm.MethodName)) ∈ lw_all := lw_g (lw_at lw_m5 227 rfl) rfl
theorem q1261 : (Jvm.Cond.selects "FigureSurvey$Scene" ({ cls := "FigureSurvey$Scene", name := "isBroken", desc := "(LFigureSurvey$Finding;)Z" } : Jvm.MethodName) ({ cls := "FigureSurvey$Scene", name := "isBroken", desc := "(LFigureSurvey$Finding;)Z" } : Jvm.MethodName)) ∈ lw_all := lw_g (lw_at lw_m5 228 rfl) rfl
theorem q1262 : (Jvm.Cond.code ({ cls := "FigureSurvey$Scene", name := "isBroken", desc := "(LFigureSurvey$Finding;)Z" } : Jvm.MethodName) prog_12_method_6_code (2 : Nat) (Option.some Jvm.ClassFile.FieldType.boolean)) ∈ lw_all := lw_g (lw_at lw_m5 229 rfl) rfl
theorem q1263 : (Jvm.Cond.methodLink "FigureSurvey$Scene" (148 : Nat) ({ cls := "FigureSurvey$Scene", name := "place", desc := "(I)I" } : Jvm.MethodName)) ∈ lw_all := lw_g (lw_at lw_m5 230 rfl) rfl
theorem q1264 : (Jvm.Cond.privateMethod ({ cls := "FigureSurvey$Scene", name := "place", desc := "(I)I" } : Jvm.MethodName)) ∈ lw_tbl := lw_at lw_m5 231 rfl
theorem q1265 : (Jvm.Cond.instanceMethod ({ cls := "FigureSurvey$Scene", name := "place", desc := "(I)I" } : Jvm.MethodName)) ∈ lw_all := lw_g (lw_at lw_m5 232 rfl) rfl
theorem q1266 : (Jvm.Cond.code ({ cls := "FigureSurvey$Scene", name := "place", desc := "(I)I" } : Jvm.MethodName) prog_12_method_5_code (3 : Nat) (Option.some Jvm.ClassFile.FieldType.int)) ∈ lw_all := lw_g (lw_at lw_m5 233 rfl) rfl
theorem q1267 : (Jvm.Cond.methodLink "FigureSurvey$Scene" (120 : Nat) ({ cls := "FigureSurvey$Scene", name := "close", desc := "()V" } : Jvm.MethodName)) ∈ lw_all := lw_g (lw_at lw_m5 234 rfl) rfl
theorem q1268 : (Jvm.Cond.privateMethod ({ cls := "FigureSurvey$Scene", name := "close", desc := "()V" } : Jvm.MethodName)) ∈ lw_tbl := lw_at lw_m5 235 rfl
theorem q1269 : (Jvm.Cond.instanceMethod ({ cls := "FigureSurvey$Scene", name := "close", desc := "()V" } : Jvm.MethodName)) ∈ lw_all := lw_g (lw_at lw_m5 236 rfl) rfl
theorem q1270 : (Jvm.Cond.code ({ cls := "FigureSurvey$Scene", name := "close", desc := "()V" } : Jvm.MethodName) prog_12_method_7_code (5 : Nat) (Option.none : Option Jvm.ClassFile.FieldType)) ∈ lw_all := lw_g (lw_at lw_m5 237 rfl) rfl
theorem q1271 : (Jvm.Cond.privateMethod ({ cls := "FigureSurvey$Scene", name := "clash", desc := "(II)Z" } : Jvm.MethodName)) ∈ lw_tbl := lw_at lw_m5 238 rfl
theorem q1272 : (Jvm.Cond.instanceMethod ({ cls := "FigureSurvey$Scene", name := "clash", desc := "(II)Z" } : Jvm.MethodName)) ∈ lw_all := lw_g (lw_at lw_m5 239 rfl) rfl
theorem q1273 : (Jvm.Cond.code ({ cls := "FigureSurvey$Scene", name := "clash", desc := "(II)Z" } : Jvm.MethodName) prog_12_method_8_code (5 : Nat) (Option.some Jvm.ClassFile.FieldType.boolean)) ∈ lw_all := lw_g (lw_at lw_m6 0 rfl) rfl
theorem q1274 : (Jvm.Cond.methodLink "FigureSurvey$Scene" (152 : Nat) ({ cls := "FigureSurvey$Finding", name := "year", desc := "()I" } : Jvm.MethodName)) ∈ lw_all := lw_g (lw_at lw_m6 1 rfl) rfl
theorem q1278 : (Jvm.Cond.methodLink "FigureSurvey$Scene" (126 : Nat) ({ cls := "FigureSurvey$Scene", name := "bestBroken", desc := "(LFigureSurvey$Clash;)I" } : Jvm.MethodName)) ∈ lw_all := lw_g (lw_at lw_m6 5 rfl) rfl
theorem q1279 : (Jvm.Cond.privateMethod ({ cls := "FigureSurvey$Scene", name := "bestBroken", desc := "(LFigureSurvey$Clash;)I" } : Jvm.MethodName)) ∈ lw_tbl := lw_at lw_m6 6 rfl
theorem q1280 : (Jvm.Cond.instanceMethod ({ cls := "FigureSurvey$Scene", name := "bestBroken", desc := "(LFigureSurvey$Clash;)I" } : Jvm.MethodName)) ∈ lw_all := lw_g (lw_at lw_m6 7 rfl) rfl
theorem q1281 : (Jvm.Cond.code ({ cls := "FigureSurvey$Scene", name := "bestBroken", desc := "(LFigureSurvey$Clash;)I" } : Jvm.MethodName) prog_12_method_10_code (9 : Nat) (Option.some Jvm.ClassFile.FieldType.int)) ∈ lw_all := lw_g (lw_at lw_m6 8 rfl) rfl
theorem q1282 : (Jvm.Cond.static ({ cls := "FigureSurvey$Scene", name := "lambda$bestBroken$0", desc := "(ILFigureSurvey$Clash;II)Z" } : Jvm.MethodName)) ∈ lw_all := lw_g (lw_at lw_m6 9 rfl) rfl
theorem q1283 : (Jvm.Cond.code ({ cls := "FigureSurvey$Scene", name := "lambda$bestBroken$0", desc := "(ILFigureSurvey$Clash;II)Z" } : Jvm.MethodName) prog_12_method_19_code (4 : Nat) (Option.some Jvm.ClassFile.FieldType.boolean)) ∈ lw_all := lw_g (lw_at lw_m6 10 rfl) rfl
theorem q1284 : (Jvm.Cond.interfaceEntry "FigureSurvey$Scene" (228 : Nat)) ∈ lw_tbl := lw_at lw_m6 11 rfl
theorem q1285 : (Jvm.Cond.methodLink "FigureSurvey$Scene" (228 : Nat) ({ cls := "FigureSurvey$Clash", name := "of", desc := "(II)Z" } : Jvm.MethodName)) ∈ lw_all := lw_g (lw_at lw_m6 12 rfl) rfl
theorem q1288 : (Jvm.Cond.methodLinkNest "FigureSurvey$Scene" (159 : Nat) ({ cls := "FigureSurvey", name := "count", desc := "(ILFigureSurvey$Pick;)I" } : Jvm.MethodName) "FigureSurvey") ∈ lw_tbl := lw_at lw_m6 15 rfl
theorem q1289 : (Jvm.Cond.methodLink "FigureSurvey$Scene" (163 : Nat) ({ cls := "FigureSurvey$Scene", name := "weight", desc := "(I)I" } : Jvm.MethodName)) ∈ lw_all := lw_g (lw_at lw_m6 16 rfl) rfl
theorem q1290 : (Jvm.Cond.instanceMethod ({ cls := "FigureSurvey$Scene", name := "weight", desc := "(I)I" } : Jvm.MethodName)) ∈ lw_all := lw_g (lw_at lw_m6 17 rfl) rfl
theorem q1291 : (Jvm.Cond.selects "FigureSurvey$Scene" ({ cls := "FigureSurvey$Scene", name := "weight", desc := "(I)I" } : Jvm.MethodName) ({ cls := "FigureSurvey$Scene", name := "weight", desc := "(I)I" } : Jvm.MethodName)) ∈ lw_all := lw_g (lw_at lw_m6 18 rfl) rfl
theorem q1292 : (Jvm.Cond.code ({ cls := "FigureSurvey$Scene", name := "weight", desc := "(I)I" } : Jvm.MethodName) prog_12_method_9_code (4 : Nat) (Option.some Jvm.ClassFile.FieldType.int)) ∈ lw_all := lw_g (lw_at lw_m6 19 rfl) rfl
theorem q1293 : (Jvm.Cond.fieldLink "FigureSurvey$Scene" (28 : Nat) "FigureSurvey$Scene" "panel" "LFigureSurvey$Panel;") ∈ lw_all := lw_g (lw_at lw_m6 20 rfl) rfl
theorem q1294 : (Jvm.Cond.fieldLink "FigureSurvey$Scene" (18 : Nat) "FigureSurvey$Scene" "genuine" "Ljava/util/ArrayList;") ∈ lw_all := lw_g (lw_at lw_m6 21 rfl) rfl
theorem q1296 : (Jvm.Cond.fieldLink "FigureSurvey$Scene" (22 : Nat) "FigureSurvey$Scene" "over" "Ljava/util/ArrayList;") ∈ lw_all := lw_g (lw_at lw_m6 23 rfl) rfl
theorem q1297 : (Jvm.Cond.fieldLink "FigureSurvey$Scene" (25 : Nat) "FigureSurvey$Scene" "dated" "Ljava/util/ArrayList;") ∈ lw_all := lw_g (lw_at lw_m6 24 rfl) rfl
theorem q1298 : (Jvm.Cond.fieldLink "FigureSurvey$Scene" (97 : Nat) "FigureSurvey$Scene" "row" "[I") ∈ lw_all := lw_g (lw_at lw_m6 25 rfl) rfl
theorem q1300 : (Jvm.Cond.fieldLink "FigureSurvey$Scene" (103 : Nat) "FigureSurvey$Scene" "isAbove" "[[Z") ∈ lw_all := lw_g (lw_at lw_m6 27 rfl) rfl
theorem q1302 : (Jvm.Cond.fieldLink "FigureSurvey$Scene" (130 : Nat) "FigureSurvey$Scene" "brokenDates" "I") ∈ lw_all := lw_g (lw_at lw_m6 29 rfl) rfl
theorem q1303 : (Jvm.Cond.fieldLink "FigureSurvey$Scene" (3 : Nat) "FigureSurvey$Scene" "this$0" "LFigureSurvey;") ∈ lw_all := lw_g (lw_at lw_m6 30 rfl) rfl
theorem q1304 : (Jvm.Cond.laysFinal "FigureSurvey$Scene" "FigureSurvey$Scene" "panel" "LFigureSurvey$Panel;") ∈ lw_all := lw_g (lw_at lw_m6 31 rfl) rfl
theorem q1305 : (Jvm.Cond.soleField "FigureSurvey$Scene" "panel") ∈ lw_all := lw_g (lw_at lw_m6 32 rfl) rfl
theorem q1306 : (Jvm.Cond.laysFinal "FigureSurvey$Scene" "FigureSurvey$Scene" "genuine" "Ljava/util/ArrayList;") ∈ lw_all := lw_g (lw_at lw_m6 33 rfl) rfl
theorem q1307 : (Jvm.Cond.soleField "FigureSurvey$Scene" "genuine") ∈ lw_all := lw_g (lw_at lw_m6 34 rfl) rfl
theorem q1308 : (Jvm.Cond.laysFinal "FigureSurvey$Scene" "FigureSurvey$Scene" "over" "Ljava/util/ArrayList;") ∈ lw_all := lw_g (lw_at lw_m6 35 rfl) rfl
theorem q1309 : (Jvm.Cond.soleField "FigureSurvey$Scene" "over") ∈ lw_all := lw_g (lw_at lw_m6 36 rfl) rfl
theorem q1310 : (Jvm.Cond.laysFinal "FigureSurvey$Scene" "FigureSurvey$Scene" "dated" "Ljava/util/ArrayList;") ∈ lw_all := lw_g (lw_at lw_m6 37 rfl) rfl
theorem q1311 : (Jvm.Cond.soleField "FigureSurvey$Scene" "dated") ∈ lw_all := lw_g (lw_at lw_m6 38 rfl) rfl
theorem q1312 : (Jvm.Cond.laysFinal "FigureSurvey$Scene" "FigureSurvey$Scene" "row" "[I") ∈ lw_all := lw_g (lw_at lw_m6 39 rfl) rfl
theorem q1313 : (Jvm.Cond.soleField "FigureSurvey$Scene" "row") ∈ lw_all := lw_g (lw_at lw_m6 40 rfl) rfl
theorem q1314 : (Jvm.Cond.laysFinal "FigureSurvey$Scene" "FigureSurvey$Scene" "isAbove" "[[Z") ∈ lw_all := lw_g (lw_at lw_m6 41 rfl) rfl
theorem q1315 : (Jvm.Cond.soleField "FigureSurvey$Scene" "isAbove") ∈ lw_all := lw_g (lw_at lw_m6 42 rfl) rfl
theorem q1316 : (Jvm.Cond.lays "FigureSurvey$Scene" "FigureSurvey$Scene" "brokenDates" "I") ∈ lw_all := lw_g (lw_at lw_m6 43 rfl) rfl
theorem q1317 : (Jvm.Cond.soleField "FigureSurvey$Scene" "brokenDates") ∈ lw_all := lw_g (lw_at lw_m6 44 rfl) rfl
theorem q1318 : (Jvm.Cond.laysFinal "FigureSurvey$Scene" "FigureSurvey$Scene" "this$0" "LFigureSurvey;") ∈ lw_all := lw_g (lw_at lw_m6 45 rfl) rfl
theorem q1319 : (Jvm.Cond.soleField "FigureSurvey$Scene" "this$0") ∈ lw_all := lw_g (lw_at lw_m6 46 rfl) rfl
theorem q1320 : (Jvm.Cond.superclass "FigureSurvey$Scene" "java/lang/Object") ∈ lw_all := lw_g (lw_at lw_m6 47 rfl) rfl
theorem q1323 : (Jvm.Cond.instanceMethod ({ cls := "FigureSurvey$Scene", name := "isOther", desc := "()Z" } : Jvm.MethodName)) ∈ lw_all := lw_g (lw_at lw_m6 50 rfl) rfl
theorem q1324 : (Jvm.Cond.selects "FigureSurvey$Scene" ({ cls := "FigureSurvey$Scene", name := "isOther", desc := "()Z" } : Jvm.MethodName) ({ cls := "FigureSurvey$Scene", name := "isOther", desc := "()Z" } : Jvm.MethodName)) ∈ lw_all := lw_g (lw_at lw_m6 51 rfl) rfl
theorem q1325 : (Jvm.Cond.code ({ cls := "FigureSurvey$Scene", name := "isOther", desc := "()Z" } : Jvm.MethodName) prog_12_method_18_code (5 : Nat) (Option.some Jvm.ClassFile.FieldType.boolean)) ∈ lw_all := lw_g (lw_at lw_m6 52 rfl) rfl
theorem q1326 : (Jvm.Cond.methodLink "FigureSurvey$Scene" (214 : Nat) ({ cls := "FigureSurvey$Scene", name := "rows", desc := "([III[I)V" } : Jvm.MethodName)) ∈ lw_all := lw_g (lw_at lw_m6 53 rfl) rfl
theorem q1327 : (Jvm.Cond.privateMethod ({ cls := "FigureSurvey$Scene", name := "rows", desc := "([III[I)V" } : Jvm.MethodName)) ∈ lw_tbl := lw_at lw_m6 54 rfl
theorem q1328 : (Jvm.Cond.instanceMethod ({ cls := "FigureSurvey$Scene", name := "rows", desc := "([III[I)V" } : Jvm.MethodName)) ∈ lw_all := lw_g (lw_at lw_m6 55 rfl) rfl
theorem q1329 : (Jvm.Cond.code ({ cls := "FigureSurvey$Scene", name := "rows", desc := "([III[I)V" } : Jvm.MethodName) prog_12_method_16_code (6 : Nat) (Option.none : Option Jvm.ClassFile.FieldType)) ∈ lw_all := lw_g (lw_at lw_m6 56 rfl) rfl
theorem q1330 : (Jvm.Cond.methodLink "FigureSurvey$Scene" (204 : Nat) ({ cls := "FigureSurvey$Scene", name := "broken", desc := "([I)I" } : Jvm.MethodName)) ∈ lw_all := lw_g (lw_at lw_m6 57 rfl) rfl
theorem q1331 : (Jvm.Cond.privateMethod ({ cls := "FigureSurvey$Scene", name := "broken", desc := "([I)I" } : Jvm.MethodName)) ∈ lw_tbl := lw_at lw_m6 58 rfl
theorem q1332 : (Jvm.Cond.instanceMethod ({ cls := "FigureSurvey$Scene", name := "broken", desc := "([I)I" } : Jvm.MethodName)) ∈ lw_all := lw_g (lw_at lw_m6 59 rfl) rfl
theorem q1333 : (Jvm.Cond.code ({ cls := "FigureSurvey$Scene", name := "broken", desc := "([I)I" } : Jvm.MethodName) prog_12_method_15_code (5 : Nat) (Option.some Jvm.ClassFile.FieldType.int)) ∈ lw_all := lw_g (lw_at lw_m6 60 rfl) rfl
theorem q1334 : (Jvm.Cond.methodLink "FigureSurvey$Scene" (200 : Nat) ({ cls := "FigureSurvey$Scene", name := "price", desc := "(II)I" } : Jvm.MethodName)) ∈ lw_all := lw_g (lw_at lw_m6 61 rfl) rfl
theorem q1335 : (Jvm.Cond.methodLink "FigureSurvey$Scene" (208 : Nat) ({ cls := "java/lang/System", name := "arraycopy", desc := "(Ljava/lang/Object;ILjava/lang/Object;II)V" } : Jvm.MethodName)) ∈ lw_all := lw_g (lw_at lw_m6 62 rfl) rfl
theorem q1336 : (Jvm.Cond.methodLink "FigureSurvey$Scene" (221 : Nat) ({ cls := "FigureSurvey$Scene", name := "isFree", desc := "(I)Z" } : Jvm.MethodName)) ∈ lw_all := lw_g (lw_at lw_m6 63 rfl) rfl
theorem q1337 : (Jvm.Cond.privateMethod ({ cls := "FigureSurvey$Scene", name := "isFree", desc := "(I)Z" } : Jvm.MethodName)) ∈ lw_tbl := lw_at lw_m6 64 rfl
theorem q1338 : (Jvm.Cond.instanceMethod ({ cls := "FigureSurvey$Scene", name := "isFree", desc := "(I)Z" } : Jvm.MethodName)) ∈ lw_all := lw_g (lw_at lw_m6 65 rfl) rfl
theorem q1339 : (Jvm.Cond.code ({ cls := "FigureSurvey$Scene", name := "isFree", desc := "(I)Z" } : Jvm.MethodName) prog_12_method_17_code (4 : Nat) (Option.some Jvm.ClassFile.FieldType.boolean)) ∈ lw_all := lw_g (lw_at lw_m6 66 rfl) rfl
theorem q1340 : (Jvm.Cond.methodLink "FigureSurvey$Scene" (218 : Nat) ({ cls := "FigureSurvey$Scene", name := "clash", desc := "(II)Z" } : Jvm.MethodName)) ∈ lw_all := lw_g (lw_at lw_m6 67 rfl) rfl
theorem q1341 : (Jvm.Cond.methodLink "FigureSurvey$Scene" (225 : Nat) ({ cls := "FigureSurvey$Scene", name := "brokenWeight", desc := "()I" } : Jvm.MethodName)) ∈ lw_all := lw_g (lw_at lw_m6 68 rfl) rfl
theorem q1342 : (Jvm.Cond.instanceMethod ({ cls := "FigureSurvey$Scene", name := "brokenWeight", desc := "()I" } : Jvm.MethodName)) ∈ lw_all := lw_g (lw_at lw_m6 69 rfl) rfl
theorem q1343 : (Jvm.Cond.selects "FigureSurvey$Scene" ({ cls := "FigureSurvey$Scene", name := "brokenWeight", desc := "()I" } : Jvm.MethodName) ({ cls := "FigureSurvey$Scene", name := "brokenWeight", desc := "()I" } : Jvm.MethodName)) ∈ lw_all := lw_g (lw_at lw_m6 70 rfl) rfl
theorem q1344 : (Jvm.Cond.code ({ cls := "FigureSurvey$Scene", name := "brokenWeight", desc := "()I" } : Jvm.MethodName) prog_12_method_14_code (3 : Nat) (Option.some Jvm.ClassFile.FieldType.int)) ∈ lw_all := lw_g (lw_at lw_m6 71 rfl) rfl
theorem q1350 : (Jvm.Cond.instanceMethod ({ cls := "FigureSurvey$Scene", name := "year", desc := "(LFigureSurvey$Figure;Z)I" } : Jvm.MethodName)) ∈ lw_all := lw_g (lw_at lw_m6 77 rfl) rfl
theorem q1351 : (Jvm.Cond.selects "FigureSurvey$Scene" ({ cls := "FigureSurvey$Scene", name := "year", desc := "(LFigureSurvey$Figure;Z)I" } : Jvm.MethodName) ({ cls := "FigureSurvey$Scene", name := "year", desc := "(LFigureSurvey$Figure;Z)I" } : Jvm.MethodName)) ∈ lw_all := lw_g (lw_at lw_m6 78 rfl) rfl
theorem q1352 : (Jvm.Cond.code ({ cls := "FigureSurvey$Scene", name := "year", desc := "(LFigureSurvey$Figure;Z)I" } : Jvm.MethodName) prog_12_method_13_code (4 : Nat) (Option.some Jvm.ClassFile.FieldType.int)) ∈ lw_all := lw_g (lw_at lw_m6 79 rfl) rfl
theorem q1353 : (Jvm.Cond.methodLink "FigureSurvey$Scene" (196 : Nat) ({ cls := "FigureSurvey$Scene", name := "bound", desc := "(LFigureSurvey$Figure;Z)LFigureSurvey$Bound;" } : Jvm.MethodName)) ∈ lw_all := lw_g (lw_at lw_m6 80 rfl) rfl
theorem q1354 : (Jvm.Cond.instanceMethod ({ cls := "FigureSurvey$Scene", name := "bound", desc := "(LFigureSurvey$Figure;Z)LFigureSurvey$Bound;" } : Jvm.MethodName)) ∈ lw_all := lw_g (lw_at lw_m6 81 rfl) rfl
theorem q1355 : (Jvm.Cond.selects "FigureSurvey$Scene" ({ cls := "FigureSurvey$Scene", name := "bound", desc := "(LFigureSurvey$Figure;Z)LFigureSurvey$Bound;" } : Jvm.MethodName) ({ cls := "FigureSurvey$Scene", name := "bound", desc := "(LFigureSurvey$Figure;Z)LFigureSurvey$Bound;" } : Jvm.MethodName)) ∈ lw_all := lw_g (lw_at lw_m6 82 rfl) rfl
theorem q1356 : (Jvm.Cond.code ({ cls := "FigureSurvey$Scene", name := "bound", desc := "(LFigureSurvey$Figure;Z)LFigureSurvey$Bound;" } : Jvm.MethodName) prog_12_method_12_code (4 : Nat) (Option.some (Jvm.ClassFile.FieldType.object "FigureSurvey$Bound"))) ∈ lw_all := lw_g (lw_at lw_m6 83 rfl) rfl
theorem q1357 : (Jvm.Cond.methodLink "FigureSurvey$Scene" (177 : Nat) ({ cls := "FigureSurvey$Scene", name := "bounds", desc := "(LFigureSurvey$Figure;Z)Ljava/util/TreeSet;" } : Jvm.MethodName)) ∈ lw_all := lw_g (lw_at lw_m6 84 rfl) rfl
theorem q1358 : (Jvm.Cond.privateMethod ({ cls := "FigureSurvey$Scene", name := "bounds", desc := "(LFigureSurvey$Figure;Z)Ljava/util/TreeSet;" } : Jvm.MethodName)) ∈ lw_tbl := lw_at lw_m6 85 rfl
theorem q1359 : (Jvm.Cond.instanceMethod ({ cls := "FigureSurvey$Scene", name := "bounds", desc := "(LFigureSurvey$Figure;Z)Ljava/util/TreeSet;" } : Jvm.MethodName)) ∈ lw_all := lw_g (lw_at lw_m6 86 rfl) rfl
theorem q1360 : (Jvm.Cond.code ({ cls := "FigureSurvey$Scene", name := "bounds", desc := "(LFigureSurvey$Figure;Z)Ljava/util/TreeSet;" } : Jvm.MethodName) prog_12_method_11_code (10 : Nat) (Option.some (Jvm.ClassFile.FieldType.object "java/util/TreeSet"))) ∈ lw_all := lw_g (lw_at lw_m6 87 rfl) rfl
theorem q1361 : (Jvm.Cond.classLink "FigureSurvey$Scene" (165 : Nat) "java/util/TreeSet") ∈ lw_all := lw_g (lw_at lw_m6 88 rfl) rfl
theorem q1363 : (Jvm.Cond.methodLink "FigureSurvey$Scene" (167 : Nat) ({ cls := "java/util/TreeSet", name := "<init>", desc := "()V" } : Jvm.MethodName)) ∈ lw_all := lw_g (lw_at lw_m6 90 rfl) rfl
theorem q1376 : (Jvm.Cond.classLink "FigureSurvey$Scene" (168 : Nat) "FigureSurvey$Bound") ∈ lw_all := lw_g (lw_at lw_m6 103 rfl) rfl
theorem q1378 : (Jvm.Cond.methodLink "FigureSurvey$Scene" (173 : Nat) ({ cls := "FigureSurvey$Bound", name := "<init>", desc := "(II)V" } : Jvm.MethodName)) ∈ lw_all := lw_g (lw_at lw_m6 105 rfl) rfl
theorem q1383 : (Jvm.Cond.fieldLink "FigureSurvey$Scene" (190 : Nat) "FigureSurvey$Bound" "year" "I") ∈ lw_all := lw_g (lw_at lw_m6 110 rfl) rfl
theorem q1391 : (Jvm.Cond.methodLink "FigureSurvey$Scene" (176 : Nat) ({ cls := "java/util/TreeSet", name := "add", desc := "(Ljava/lang/Object;)Z" } : Jvm.MethodName)) ∈ lw_all := lw_g (lw_at lw_m6 118 rfl) rfl
theorem q1487 : (Jvm.Cond.methodLink "FigureSurvey$Scene" (181 : Nat) ({ cls := "java/util/TreeSet", name := "isEmpty", desc := "()Z" } : Jvm.MethodName)) ∈ lw_all := lw_g (lw_at lw_m6 214 rfl) rfl
theorem q1504 : (Jvm.Cond.methodLink "FigureSurvey$Scene" (184 : Nat) ({ cls := "java/util/TreeSet", name := "first", desc := "()Ljava/lang/Object;" } : Jvm.MethodName)) ∈ lw_all := lw_g (lw_at lw_m6 231 rfl) rfl
theorem q1519 : (Jvm.Cond.methodLink "FigureSurvey$Scene" (187 : Nat) ({ cls := "java/util/TreeSet", name := "last", desc := "()Ljava/lang/Object;" } : Jvm.MethodName)) ∈ lw_all := lw_g (lw_at lw_m7 6 rfl) rfl
theorem q1535 : (Jvm.Cond.methodLink "FigureSurvey$Scene" (192 : Nat) ({ cls := "java/util/TreeSet", name := "ceiling", desc := "(Ljava/lang/Object;)Ljava/lang/Object;" } : Jvm.MethodName)) ∈ lw_all := lw_g (lw_at lw_m7 22 rfl) rfl
theorem q1815 : (Jvm.Cond.fieldLink "FigureSurvey$Scene" (45 : Nat) "FigureSurvey$Figure" "panel" "LFigureSurvey$Panel;") ∈ lw_all := lw_g (lw_at lw_m8 62 rfl) rfl
theorem q2025 : (Jvm.Cond.fieldLink "FigureSurvey$Scene" (170 : Nat) "FigureSurvey$Finding" "number" "I") ∈ lw_all := lw_g (lw_at lw_m9 32 rfl) rfl
theorem q2028 : (Jvm.Cond.fieldLink "FigureSurvey$Scene" (85 : Nat) "FigureSurvey$Finding" "kind" "I") ∈ lw_all := lw_g (lw_at lw_m9 35 rfl) rfl
theorem q2031 : (Jvm.Cond.fieldLink "FigureSurvey$Scene" (109 : Nat) "FigureSurvey$Finding" "figure" "LFigureSurvey$Figure;") ∈ lw_all := lw_g (lw_at lw_m9 38 rfl) rfl
theorem q2034 : (Jvm.Cond.fieldLink "FigureSurvey$Scene" (117 : Nat) "FigureSurvey$Finding" "other" "LFigureSurvey$Figure;") ∈ lw_all := lw_g (lw_at lw_m9 41 rfl) rfl
theorem q2037 : (Jvm.Cond.fieldLink "FigureSurvey$Scene" (145 : Nat) "FigureSurvey$Finding" "weight" "I") ∈ lw_all := lw_g (lw_at lw_m9 44 rfl) rfl
theorem q2946 : (Jvm.Cond.castable "FigureSurvey$Scene" "java/lang/Object") ∈ lw_tbl := lw_at lw_m12 233 rfl
theorem in_X9 : ∀ w ∈ wsX90, w ∈ lw_all := lw_in wsX90 [1304, 1306, 1308, 1310, 1312, 1314, 1316, 1318] (by decide +kernel) (by decide +kernel)
/-! FigureSurveyModel$Found -/
set_option maxRecDepth 100000
def RX10 : String := "FigureSurveyModel$Found"
def TX10 : u_T := fun k => match k with
  | 0 => ("FigureSurveyModel$Found", "genuine", "[I", false)
  | 1 => ("FigureSurveyModel$Found", "order", "[I", false)
  | 2 => ("FigureSurveyModel$Found", "overs", "[[I", false)
  | 3 => ("FigureSurveyModel$Found", "many", "I", false)
  | 4 => ("FigureSurveyModel$Found", "counts", "[Z", true)
  | 5 => ("FigureSurveyModel$Found", "broken", "[Z", true)
  | 6 => ("FigureSurveyModel$Found", "above", "[[Z", true)
  | _ => ("FigureSurveyModel$Found", "this$0", "LFigureSurveyModel;", true)
def tyX10 : Nat → FieldType := fun k => match k with
  | 0 => .array .int
  | 1 => .array .int
  | 2 => .array (.array .int)
  | 3 => .int
  | 4 => .array .boolean
  | 5 => .array .boolean
  | 6 => .array (.array .boolean)
  | _ => .object "FigureSurveyModel"
abbrev wsX100 : List Cond := u_ws RX10 TX10 8
theorem nmX10 : ∀ a, a < 8 → ∀ b, b < 8 → a ≠ b → (TX10 a).2.1 ≠ (TX10 b).2.1 := by decide +kernel
theorem tyX10_ok : ∀ k, k < 8 → parseFieldDescriptor (TX10 k).2.2.1 = some (tyX10 k) := by decide +kernel
abbrev cX10_init : ByteArray := prog_19_method_1_code
def yX10_init : MethodName := ⟨RX10, "<init>", "(LFigureSurveyModel;I)V"⟩
def dkwX10_init_13 : List UInt8 := [182, 0, 70, 42, 182, 0, 73, 177]
abbrev dktX10_init_13 : List UInt8 := dkwX10_init_13 ++ []
def dkwX10_init_12 : List UInt8 := [79, 83, 132, 5, 1, 167, 255, 116, 42, 29, 29, 197, 0, 62, 2, 181, 0, 64, 42, 182, 0, 67, 42]
abbrev dktX10_init_12 : List UInt8 := dkwX10_init_12 ++ dktX10_init_13
def dkwX10_init_11 : List UInt8 := [21, 5, 79, 89, 4, 42, 25, 6, 4, 46, 182, 0, 55, 79, 89, 5, 42, 25, 6, 5, 46, 182, 0, 55]
abbrev dktX10_init_11 : List UInt8 := dkwX10_init_11 ++ dktX10_init_12
def dkwX10_init_10 : List UInt8 := [154, 0, 49, 42, 180, 0, 17, 42, 89, 180, 0, 58, 90, 4, 96, 181, 0, 58, 6, 188, 10, 89, 3]
abbrev dktX10_init_10 : List UInt8 := dkwX10_init_10 ++ dktX10_init_11
def dkwX10_init_9 : List UInt8 := [155, 0, 7, 4, 167, 0, 4, 3, 84, 42, 180, 0, 31, 21, 5, 51, 153, 0, 56, 25, 6, 3, 46]
abbrev dktX10_init_9 : List UInt8 := dkwX10_init_9 ++ dktX10_init_10
def dkwX10_init_8 : List UInt8 := [4, 46, 182, 0, 55, 155, 0, 25, 25, 6, 3, 46, 154, 0, 14, 42, 25, 6, 5, 46, 182, 0, 55]
abbrev dktX10_init_8 : List UInt8 := dkwX10_init_8 ++ dktX10_init_9
def dkwX10_init_7 : List UInt8 := [182, 0, 51, 192, 0, 15, 58, 6, 42, 180, 0, 31, 21, 5, 25, 6, 7, 46, 154, 0, 36, 42, 25, 6]
abbrev dktX10_init_7 : List UInt8 := dkwX10_init_7 ++ dktX10_init_8
def dkwX10_init_6 : List UInt8 := [167, 255, 235, 3, 54, 5, 21, 5, 43, 180, 0, 21, 182, 0, 25, 162, 0, 134, 43, 180, 0, 21, 21, 5]
abbrev dktX10_init_6 : List UInt8 := dkwX10_init_6 ++ dktX10_init_7
def dkwX10_init_5 : List UInt8 := [54, 5, 21, 5, 29, 162, 0, 21, 42, 180, 0, 48, 21, 5, 25, 4, 21, 5, 46, 79, 132, 5, 1]
abbrev dktX10_init_5 : List UInt8 := dkwX10_init_5 ++ dktX10_init_6
def dkwX10_init_4 : List UInt8 := [25, 4, 29, 132, 3, 1, 21, 5, 79, 132, 5, 1, 167, 255, 211, 42, 29, 188, 10, 181, 0, 48, 3]
abbrev dktX10_init_4 : List UInt8 := dkwX10_init_4 ++ dktX10_init_5
def dkwX10_init_3 : List UInt8 := [162, 0, 39, 43, 21, 5, 182, 0, 41, 28, 160, 0, 23, 43, 21, 5, 182, 0, 45, 16, 10, 162, 0, 12]
abbrev dktX10_init_3 : List UInt8 := dkwX10_init_3 ++ dktX10_init_4
def dkwX10_init_2 : List UInt8 := [181, 0, 35, 3, 62, 16, 8, 188, 10, 58, 4, 3, 54, 5, 21, 5, 43, 180, 0, 38, 182, 0, 25]
abbrev dktX10_init_2 : List UInt8 := dkwX10_init_2 ++ dktX10_init_3
def dkwX10_init_1 : List UInt8 := [180, 0, 21, 182, 0, 25, 188, 4, 181, 0, 31, 42, 42, 180, 0, 3, 180, 0, 21, 182, 0, 25, 188, 4]
abbrev dktX10_init_1 : List UInt8 := dkwX10_init_1 ++ dktX10_init_2
def dkwX10_init_0 : List UInt8 := [42, 43, 181, 0, 3, 42, 183, 0, 9, 42, 16, 12, 189, 0, 15, 181, 0, 17, 42, 42, 180, 0, 3]
abbrev dktX10_init_0 : List UInt8 := dkwX10_init_0 ++ dktX10_init_1
theorem dksX10_init_0 : cX10_init.data.toList.drop 0 = dktX10_init_0 := by decide +kernel
theorem dksX10_init_1 : cX10_init.data.toList.drop 23 = dktX10_init_1 := dk_seg dksX10_init_0 23 rfl rfl
theorem dksX10_init_2 : cX10_init.data.toList.drop 47 = dktX10_init_2 := dk_seg dksX10_init_1 24 rfl rfl
theorem dksX10_init_3 : cX10_init.data.toList.drop 70 = dktX10_init_3 := dk_seg dksX10_init_2 23 rfl rfl
theorem dksX10_init_4 : cX10_init.data.toList.drop 94 = dktX10_init_4 := dk_seg dksX10_init_3 24 rfl rfl
theorem dksX10_init_5 : cX10_init.data.toList.drop 117 = dktX10_init_5 := dk_seg dksX10_init_4 23 rfl rfl
theorem dksX10_init_6 : cX10_init.data.toList.drop 140 = dktX10_init_6 := dk_seg dksX10_init_5 23 rfl rfl
theorem dksX10_init_7 : cX10_init.data.toList.drop 164 = dktX10_init_7 := dk_seg dksX10_init_6 24 rfl rfl
theorem dksX10_init_8 : cX10_init.data.toList.drop 188 = dktX10_init_8 := dk_seg dksX10_init_7 24 rfl rfl
theorem dksX10_init_9 : cX10_init.data.toList.drop 211 = dktX10_init_9 := dk_seg dksX10_init_8 23 rfl rfl
theorem dksX10_init_10 : cX10_init.data.toList.drop 234 = dktX10_init_10 := dk_seg dksX10_init_9 23 rfl rfl
theorem dksX10_init_11 : cX10_init.data.toList.drop 257 = dktX10_init_11 := dk_seg dksX10_init_10 23 rfl rfl
theorem dksX10_init_12 : cX10_init.data.toList.drop 281 = dktX10_init_12 := dk_seg dksX10_init_11 24 rfl rfl
theorem dksX10_init_13 : cX10_init.data.toList.drop 304 = dktX10_init_13 := dk_seg dksX10_init_12 23 rfl rfl
theorem dX10_init_0 : decode cX10_init 0 = .ok (.aload_n 0, 1) := dk_42 (dk_at dksX10_init_0 0 rfl rfl)
theorem dX10_init_1 : decode cX10_init 1 = .ok (.aload_n 1, 1) := dk_43 (dk_at dksX10_init_0 1 rfl rfl)
theorem dX10_init_2 : decode cX10_init 2 = .ok (.putfield 3, 3) := dk_181 0 3 (dk_at dksX10_init_0 2 rfl rfl)
theorem dX10_init_5 : decode cX10_init 5 = .ok (.aload_n 0, 1) := dk_42 (dk_at dksX10_init_0 5 rfl rfl)
theorem dX10_init_6 : decode cX10_init 6 = .ok (.invokespecial 9, 3) := dk_183 0 9 (dk_at dksX10_init_0 6 rfl rfl)
theorem dX10_init_9 : decode cX10_init 9 = .ok (.aload_n 0, 1) := dk_42 (dk_at dksX10_init_0 9 rfl rfl)
theorem dX10_init_10 : decode cX10_init 10 = .ok (.bipush 12, 2) := dk_16 12 (dk_at dksX10_init_0 10 rfl rfl)
theorem dX10_init_12 : decode cX10_init 12 = .ok (.anewarray 15, 3) := dk_189 0 15 (dk_at dksX10_init_0 12 rfl rfl)
theorem dX10_init_15 : decode cX10_init 15 = .ok (.putfield 17, 3) := dk_181 0 17 (dk_at dksX10_init_0 15 rfl rfl)
theorem dX10_init_18 : decode cX10_init 18 = .ok (.aload_n 0, 1) := dk_42 (dk_at dksX10_init_0 18 rfl rfl)
theorem dX10_init_19 : decode cX10_init 19 = .ok (.aload_n 0, 1) := dk_42 (dk_at dksX10_init_0 19 rfl rfl)
theorem dX10_init_20 : decode cX10_init 20 = .ok (.getfield 3, 3) := dk_180 0 3 (dk_at dksX10_init_0 20 rfl rfl)
theorem dX10_init_23 : decode cX10_init 23 = .ok (.getfield 21, 3) := dk_180 0 21 (dk_at dksX10_init_1 0 rfl rfl)
theorem dX10_init_26 : decode cX10_init 26 = .ok (.invokevirtual 25, 3) := dk_182 0 25 (dk_at dksX10_init_1 3 rfl rfl)
theorem dX10_init_29 : decode cX10_init 29 = .ok (.newarray .boolean, 2) := dk_188_4 (dk_at dksX10_init_1 6 rfl rfl)
theorem dX10_init_31 : decode cX10_init 31 = .ok (.putfield 31, 3) := dk_181 0 31 (dk_at dksX10_init_1 8 rfl rfl)
theorem dX10_init_34 : decode cX10_init 34 = .ok (.aload_n 0, 1) := dk_42 (dk_at dksX10_init_1 11 rfl rfl)
theorem dX10_init_35 : decode cX10_init 35 = .ok (.aload_n 0, 1) := dk_42 (dk_at dksX10_init_1 12 rfl rfl)
theorem dX10_init_36 : decode cX10_init 36 = .ok (.getfield 3, 3) := dk_180 0 3 (dk_at dksX10_init_1 13 rfl rfl)
theorem dX10_init_39 : decode cX10_init 39 = .ok (.getfield 21, 3) := dk_180 0 21 (dk_at dksX10_init_1 16 rfl rfl)
theorem dX10_init_42 : decode cX10_init 42 = .ok (.invokevirtual 25, 3) := dk_182 0 25 (dk_at dksX10_init_1 19 rfl rfl)
theorem dX10_init_45 : decode cX10_init 45 = .ok (.newarray .boolean, 2) := dk_188_4 (dk_at dksX10_init_1 22 rfl rfl)
theorem dX10_init_47 : decode cX10_init 47 = .ok (.putfield 35, 3) := dk_181 0 35 (dk_at dksX10_init_2 0 rfl rfl)
theorem dX10_init_50 : decode cX10_init 50 = .ok (.iconst 0, 1) := dk_3 (dk_at dksX10_init_2 3 rfl rfl)
theorem dX10_init_51 : decode cX10_init 51 = .ok (.istore_n 3, 1) := dk_62 (dk_at dksX10_init_2 4 rfl rfl)
theorem dX10_init_52 : decode cX10_init 52 = .ok (.bipush 8, 2) := dk_16 8 (dk_at dksX10_init_2 5 rfl rfl)
theorem dX10_init_54 : decode cX10_init 54 = .ok (.newarray .int, 2) := dk_188_10 (dk_at dksX10_init_2 7 rfl rfl)
theorem dX10_init_56 : decode cX10_init 56 = .ok (.astore 4, 2) := dk_58 4 (dk_at dksX10_init_2 9 rfl rfl)
theorem dX10_init_58 : decode cX10_init 58 = .ok (.iconst 0, 1) := dk_3 (dk_at dksX10_init_2 11 rfl rfl)
theorem dX10_init_59 : decode cX10_init 59 = .ok (.istore 5, 2) := dk_54 5 (dk_at dksX10_init_2 12 rfl rfl)
theorem dX10_init_61 : decode cX10_init 61 = .ok (.iload 5, 2) := dk_21 5 (dk_at dksX10_init_2 14 rfl rfl)
theorem dX10_init_63 : decode cX10_init 63 = .ok (.aload_n 1, 1) := dk_43 (dk_at dksX10_init_2 16 rfl rfl)
theorem dX10_init_64 : decode cX10_init 64 = .ok (.getfield 38, 3) := dk_180 0 38 (dk_at dksX10_init_2 17 rfl rfl)
theorem dX10_init_67 : decode cX10_init 67 = .ok (.invokevirtual 25, 3) := dk_182 0 25 (dk_at dksX10_init_2 20 rfl rfl)
theorem dX10_init_70 : decode cX10_init 70 = .ok (.if_icmp .ge 39, 3) := dk_162 0 39 (dk_at dksX10_init_3 0 rfl rfl)
theorem dX10_init_73 : decode cX10_init 73 = .ok (.aload_n 1, 1) := dk_43 (dk_at dksX10_init_3 3 rfl rfl)
theorem dX10_init_74 : decode cX10_init 74 = .ok (.iload 5, 2) := dk_21 5 (dk_at dksX10_init_3 4 rfl rfl)
theorem dX10_init_76 : decode cX10_init 76 = .ok (.invokevirtual 41, 3) := dk_182 0 41 (dk_at dksX10_init_3 6 rfl rfl)
theorem dX10_init_79 : decode cX10_init 79 = .ok (.iload_n 2, 1) := dk_28 (dk_at dksX10_init_3 9 rfl rfl)
theorem dX10_init_80 : decode cX10_init 80 = .ok (.if_icmp .ne 23, 3) := dk_160 0 23 (dk_at dksX10_init_3 10 rfl rfl)
theorem dX10_init_83 : decode cX10_init 83 = .ok (.aload_n 1, 1) := dk_43 (dk_at dksX10_init_3 13 rfl rfl)
theorem dX10_init_84 : decode cX10_init 84 = .ok (.iload 5, 2) := dk_21 5 (dk_at dksX10_init_3 14 rfl rfl)
theorem dX10_init_86 : decode cX10_init 86 = .ok (.invokevirtual 45, 3) := dk_182 0 45 (dk_at dksX10_init_3 16 rfl rfl)
theorem dX10_init_89 : decode cX10_init 89 = .ok (.bipush 10, 2) := dk_16 10 (dk_at dksX10_init_3 19 rfl rfl)
theorem dX10_init_91 : decode cX10_init 91 = .ok (.if_icmp .ge 12, 3) := dk_162 0 12 (dk_at dksX10_init_3 21 rfl rfl)
theorem dX10_init_94 : decode cX10_init 94 = .ok (.aload 4, 2) := dk_25 4 (dk_at dksX10_init_4 0 rfl rfl)
theorem dX10_init_96 : decode cX10_init 96 = .ok (.iload_n 3, 1) := dk_29 (dk_at dksX10_init_4 2 rfl rfl)
theorem dX10_init_97 : decode cX10_init 97 = .ok (.iinc 3 1, 3) := dk_132 3 1 (dk_at dksX10_init_4 3 rfl rfl)
theorem dX10_init_100 : decode cX10_init 100 = .ok (.iload 5, 2) := dk_21 5 (dk_at dksX10_init_4 6 rfl rfl)
theorem dX10_init_102 : decode cX10_init 102 = .ok (.iastore, 1) := dk_79 (dk_at dksX10_init_4 8 rfl rfl)
theorem dX10_init_103 : decode cX10_init 103 = .ok (.iinc 5 1, 3) := dk_132 5 1 (dk_at dksX10_init_4 9 rfl rfl)
theorem dX10_init_106 : decode cX10_init 106 = .ok (.goto (-45), 3) := dk_167 255 211 (dk_at dksX10_init_4 12 rfl rfl)
theorem dX10_init_109 : decode cX10_init 109 = .ok (.aload_n 0, 1) := dk_42 (dk_at dksX10_init_4 15 rfl rfl)
theorem dX10_init_110 : decode cX10_init 110 = .ok (.iload_n 3, 1) := dk_29 (dk_at dksX10_init_4 16 rfl rfl)
theorem dX10_init_111 : decode cX10_init 111 = .ok (.newarray .int, 2) := dk_188_10 (dk_at dksX10_init_4 17 rfl rfl)
theorem dX10_init_113 : decode cX10_init 113 = .ok (.putfield 48, 3) := dk_181 0 48 (dk_at dksX10_init_4 19 rfl rfl)
theorem dX10_init_116 : decode cX10_init 116 = .ok (.iconst 0, 1) := dk_3 (dk_at dksX10_init_4 22 rfl rfl)
theorem dX10_init_117 : decode cX10_init 117 = .ok (.istore 5, 2) := dk_54 5 (dk_at dksX10_init_5 0 rfl rfl)
theorem dX10_init_119 : decode cX10_init 119 = .ok (.iload 5, 2) := dk_21 5 (dk_at dksX10_init_5 2 rfl rfl)
theorem dX10_init_121 : decode cX10_init 121 = .ok (.iload_n 3, 1) := dk_29 (dk_at dksX10_init_5 4 rfl rfl)
theorem dX10_init_122 : decode cX10_init 122 = .ok (.if_icmp .ge 21, 3) := dk_162 0 21 (dk_at dksX10_init_5 5 rfl rfl)
theorem dX10_init_125 : decode cX10_init 125 = .ok (.aload_n 0, 1) := dk_42 (dk_at dksX10_init_5 8 rfl rfl)
theorem dX10_init_126 : decode cX10_init 126 = .ok (.getfield 48, 3) := dk_180 0 48 (dk_at dksX10_init_5 9 rfl rfl)
theorem dX10_init_129 : decode cX10_init 129 = .ok (.iload 5, 2) := dk_21 5 (dk_at dksX10_init_5 12 rfl rfl)
theorem dX10_init_131 : decode cX10_init 131 = .ok (.aload 4, 2) := dk_25 4 (dk_at dksX10_init_5 14 rfl rfl)
theorem dX10_init_133 : decode cX10_init 133 = .ok (.iload 5, 2) := dk_21 5 (dk_at dksX10_init_5 16 rfl rfl)
theorem dX10_init_135 : decode cX10_init 135 = .ok (.iaload, 1) := dk_46 (dk_at dksX10_init_5 18 rfl rfl)
theorem dX10_init_136 : decode cX10_init 136 = .ok (.iastore, 1) := dk_79 (dk_at dksX10_init_5 19 rfl rfl)
theorem dX10_init_137 : decode cX10_init 137 = .ok (.iinc 5 1, 3) := dk_132 5 1 (dk_at dksX10_init_5 20 rfl rfl)
theorem dX10_init_140 : decode cX10_init 140 = .ok (.goto (-21), 3) := dk_167 255 235 (dk_at dksX10_init_6 0 rfl rfl)
theorem dX10_init_143 : decode cX10_init 143 = .ok (.iconst 0, 1) := dk_3 (dk_at dksX10_init_6 3 rfl rfl)
theorem dX10_init_144 : decode cX10_init 144 = .ok (.istore 5, 2) := dk_54 5 (dk_at dksX10_init_6 4 rfl rfl)
theorem dX10_init_146 : decode cX10_init 146 = .ok (.iload 5, 2) := dk_21 5 (dk_at dksX10_init_6 6 rfl rfl)
theorem dX10_init_148 : decode cX10_init 148 = .ok (.aload_n 1, 1) := dk_43 (dk_at dksX10_init_6 8 rfl rfl)
theorem dX10_init_149 : decode cX10_init 149 = .ok (.getfield 21, 3) := dk_180 0 21 (dk_at dksX10_init_6 9 rfl rfl)
theorem dX10_init_152 : decode cX10_init 152 = .ok (.invokevirtual 25, 3) := dk_182 0 25 (dk_at dksX10_init_6 12 rfl rfl)
theorem dX10_init_155 : decode cX10_init 155 = .ok (.if_icmp .ge 134, 3) := dk_162 0 134 (dk_at dksX10_init_6 15 rfl rfl)
theorem dX10_init_158 : decode cX10_init 158 = .ok (.aload_n 1, 1) := dk_43 (dk_at dksX10_init_6 18 rfl rfl)
theorem dX10_init_159 : decode cX10_init 159 = .ok (.getfield 21, 3) := dk_180 0 21 (dk_at dksX10_init_6 19 rfl rfl)
theorem dX10_init_162 : decode cX10_init 162 = .ok (.iload 5, 2) := dk_21 5 (dk_at dksX10_init_6 22 rfl rfl)
theorem dX10_init_164 : decode cX10_init 164 = .ok (.invokevirtual 51, 3) := dk_182 0 51 (dk_at dksX10_init_7 0 rfl rfl)
theorem dX10_init_167 : decode cX10_init 167 = .ok (.checkcast 15, 3) := dk_192 0 15 (dk_at dksX10_init_7 3 rfl rfl)
theorem dX10_init_170 : decode cX10_init 170 = .ok (.astore 6, 2) := dk_58 6 (dk_at dksX10_init_7 6 rfl rfl)
theorem dX10_init_172 : decode cX10_init 172 = .ok (.aload_n 0, 1) := dk_42 (dk_at dksX10_init_7 8 rfl rfl)
theorem dX10_init_173 : decode cX10_init 173 = .ok (.getfield 31, 3) := dk_180 0 31 (dk_at dksX10_init_7 9 rfl rfl)
theorem dX10_init_176 : decode cX10_init 176 = .ok (.iload 5, 2) := dk_21 5 (dk_at dksX10_init_7 12 rfl rfl)
theorem dX10_init_178 : decode cX10_init 178 = .ok (.aload 6, 2) := dk_25 6 (dk_at dksX10_init_7 14 rfl rfl)
theorem dX10_init_180 : decode cX10_init 180 = .ok (.iconst 4, 1) := dk_7 (dk_at dksX10_init_7 16 rfl rfl)
theorem dX10_init_181 : decode cX10_init 181 = .ok (.iaload, 1) := dk_46 (dk_at dksX10_init_7 17 rfl rfl)
theorem dX10_init_182 : decode cX10_init 182 = .ok (.ifCond .ne 36, 3) := dk_154 0 36 (dk_at dksX10_init_7 18 rfl rfl)
theorem dX10_init_185 : decode cX10_init 185 = .ok (.aload_n 0, 1) := dk_42 (dk_at dksX10_init_7 21 rfl rfl)
theorem dX10_init_186 : decode cX10_init 186 = .ok (.aload 6, 2) := dk_25 6 (dk_at dksX10_init_7 22 rfl rfl)
theorem dX10_init_188 : decode cX10_init 188 = .ok (.iconst 1, 1) := dk_4 (dk_at dksX10_init_8 0 rfl rfl)
theorem dX10_init_189 : decode cX10_init 189 = .ok (.iaload, 1) := dk_46 (dk_at dksX10_init_8 1 rfl rfl)
theorem dX10_init_190 : decode cX10_init 190 = .ok (.invokevirtual 55, 3) := dk_182 0 55 (dk_at dksX10_init_8 2 rfl rfl)
theorem dX10_init_193 : decode cX10_init 193 = .ok (.ifCond .lt 25, 3) := dk_155 0 25 (dk_at dksX10_init_8 5 rfl rfl)
theorem dX10_init_196 : decode cX10_init 196 = .ok (.aload 6, 2) := dk_25 6 (dk_at dksX10_init_8 8 rfl rfl)
theorem dX10_init_198 : decode cX10_init 198 = .ok (.iconst 0, 1) := dk_3 (dk_at dksX10_init_8 10 rfl rfl)
theorem dX10_init_199 : decode cX10_init 199 = .ok (.iaload, 1) := dk_46 (dk_at dksX10_init_8 11 rfl rfl)
theorem dX10_init_200 : decode cX10_init 200 = .ok (.ifCond .ne 14, 3) := dk_154 0 14 (dk_at dksX10_init_8 12 rfl rfl)
theorem dX10_init_203 : decode cX10_init 203 = .ok (.aload_n 0, 1) := dk_42 (dk_at dksX10_init_8 15 rfl rfl)
theorem dX10_init_204 : decode cX10_init 204 = .ok (.aload 6, 2) := dk_25 6 (dk_at dksX10_init_8 16 rfl rfl)
theorem dX10_init_206 : decode cX10_init 206 = .ok (.iconst 2, 1) := dk_5 (dk_at dksX10_init_8 18 rfl rfl)
theorem dX10_init_207 : decode cX10_init 207 = .ok (.iaload, 1) := dk_46 (dk_at dksX10_init_8 19 rfl rfl)
theorem dX10_init_208 : decode cX10_init 208 = .ok (.invokevirtual 55, 3) := dk_182 0 55 (dk_at dksX10_init_8 20 rfl rfl)
theorem dX10_init_211 : decode cX10_init 211 = .ok (.ifCond .lt 7, 3) := dk_155 0 7 (dk_at dksX10_init_9 0 rfl rfl)
theorem dX10_init_214 : decode cX10_init 214 = .ok (.iconst 1, 1) := dk_4 (dk_at dksX10_init_9 3 rfl rfl)
theorem dX10_init_215 : decode cX10_init 215 = .ok (.goto 4, 3) := dk_167 0 4 (dk_at dksX10_init_9 4 rfl rfl)
theorem dX10_init_218 : decode cX10_init 218 = .ok (.iconst 0, 1) := dk_3 (dk_at dksX10_init_9 7 rfl rfl)
theorem dX10_init_219 : decode cX10_init 219 = .ok (.bastore, 1) := dk_84 (dk_at dksX10_init_9 8 rfl rfl)
theorem dX10_init_220 : decode cX10_init 220 = .ok (.aload_n 0, 1) := dk_42 (dk_at dksX10_init_9 9 rfl rfl)
theorem dX10_init_221 : decode cX10_init 221 = .ok (.getfield 31, 3) := dk_180 0 31 (dk_at dksX10_init_9 10 rfl rfl)
theorem dX10_init_224 : decode cX10_init 224 = .ok (.iload 5, 2) := dk_21 5 (dk_at dksX10_init_9 13 rfl rfl)
theorem dX10_init_226 : decode cX10_init 226 = .ok (.baload, 1) := dk_51 (dk_at dksX10_init_9 15 rfl rfl)
theorem dX10_init_227 : decode cX10_init 227 = .ok (.ifCond .eq 56, 3) := dk_153 0 56 (dk_at dksX10_init_9 16 rfl rfl)
theorem dX10_init_230 : decode cX10_init 230 = .ok (.aload 6, 2) := dk_25 6 (dk_at dksX10_init_9 19 rfl rfl)
theorem dX10_init_232 : decode cX10_init 232 = .ok (.iconst 0, 1) := dk_3 (dk_at dksX10_init_9 21 rfl rfl)
theorem dX10_init_233 : decode cX10_init 233 = .ok (.iaload, 1) := dk_46 (dk_at dksX10_init_9 22 rfl rfl)
theorem dX10_init_234 : decode cX10_init 234 = .ok (.ifCond .ne 49, 3) := dk_154 0 49 (dk_at dksX10_init_10 0 rfl rfl)
theorem dX10_init_237 : decode cX10_init 237 = .ok (.aload_n 0, 1) := dk_42 (dk_at dksX10_init_10 3 rfl rfl)
theorem dX10_init_238 : decode cX10_init 238 = .ok (.getfield 17, 3) := dk_180 0 17 (dk_at dksX10_init_10 4 rfl rfl)
theorem dX10_init_241 : decode cX10_init 241 = .ok (.aload_n 0, 1) := dk_42 (dk_at dksX10_init_10 7 rfl rfl)
theorem dX10_init_242 : decode cX10_init 242 = .ok (.dup, 1) := dk_89 (dk_at dksX10_init_10 8 rfl rfl)
theorem dX10_init_243 : decode cX10_init 243 = .ok (.getfield 58, 3) := dk_180 0 58 (dk_at dksX10_init_10 9 rfl rfl)
theorem dX10_init_246 : decode cX10_init 246 = .ok (.dup_x1, 1) := dk_90 (dk_at dksX10_init_10 12 rfl rfl)
theorem dX10_init_247 : decode cX10_init 247 = .ok (.iconst 1, 1) := dk_4 (dk_at dksX10_init_10 13 rfl rfl)
theorem dX10_init_248 : decode cX10_init 248 = .ok (.iadd, 1) := dk_96 (dk_at dksX10_init_10 14 rfl rfl)
theorem dX10_init_249 : decode cX10_init 249 = .ok (.putfield 58, 3) := dk_181 0 58 (dk_at dksX10_init_10 15 rfl rfl)
theorem dX10_init_252 : decode cX10_init 252 = .ok (.iconst 3, 1) := dk_6 (dk_at dksX10_init_10 18 rfl rfl)
theorem dX10_init_253 : decode cX10_init 253 = .ok (.newarray .int, 2) := dk_188_10 (dk_at dksX10_init_10 19 rfl rfl)
theorem dX10_init_255 : decode cX10_init 255 = .ok (.dup, 1) := dk_89 (dk_at dksX10_init_10 21 rfl rfl)
theorem dX10_init_256 : decode cX10_init 256 = .ok (.iconst 0, 1) := dk_3 (dk_at dksX10_init_10 22 rfl rfl)
theorem dX10_init_257 : decode cX10_init 257 = .ok (.iload 5, 2) := dk_21 5 (dk_at dksX10_init_11 0 rfl rfl)
theorem dX10_init_259 : decode cX10_init 259 = .ok (.iastore, 1) := dk_79 (dk_at dksX10_init_11 2 rfl rfl)
theorem dX10_init_260 : decode cX10_init 260 = .ok (.dup, 1) := dk_89 (dk_at dksX10_init_11 3 rfl rfl)
theorem dX10_init_261 : decode cX10_init 261 = .ok (.iconst 1, 1) := dk_4 (dk_at dksX10_init_11 4 rfl rfl)
theorem dX10_init_262 : decode cX10_init 262 = .ok (.aload_n 0, 1) := dk_42 (dk_at dksX10_init_11 5 rfl rfl)
theorem dX10_init_263 : decode cX10_init 263 = .ok (.aload 6, 2) := dk_25 6 (dk_at dksX10_init_11 6 rfl rfl)
theorem dX10_init_265 : decode cX10_init 265 = .ok (.iconst 1, 1) := dk_4 (dk_at dksX10_init_11 8 rfl rfl)
theorem dX10_init_266 : decode cX10_init 266 = .ok (.iaload, 1) := dk_46 (dk_at dksX10_init_11 9 rfl rfl)
theorem dX10_init_267 : decode cX10_init 267 = .ok (.invokevirtual 55, 3) := dk_182 0 55 (dk_at dksX10_init_11 10 rfl rfl)
theorem dX10_init_270 : decode cX10_init 270 = .ok (.iastore, 1) := dk_79 (dk_at dksX10_init_11 13 rfl rfl)
theorem dX10_init_271 : decode cX10_init 271 = .ok (.dup, 1) := dk_89 (dk_at dksX10_init_11 14 rfl rfl)
theorem dX10_init_272 : decode cX10_init 272 = .ok (.iconst 2, 1) := dk_5 (dk_at dksX10_init_11 15 rfl rfl)
theorem dX10_init_273 : decode cX10_init 273 = .ok (.aload_n 0, 1) := dk_42 (dk_at dksX10_init_11 16 rfl rfl)
theorem dX10_init_274 : decode cX10_init 274 = .ok (.aload 6, 2) := dk_25 6 (dk_at dksX10_init_11 17 rfl rfl)
theorem dX10_init_276 : decode cX10_init 276 = .ok (.iconst 2, 1) := dk_5 (dk_at dksX10_init_11 19 rfl rfl)
theorem dX10_init_277 : decode cX10_init 277 = .ok (.iaload, 1) := dk_46 (dk_at dksX10_init_11 20 rfl rfl)
theorem dX10_init_278 : decode cX10_init 278 = .ok (.invokevirtual 55, 3) := dk_182 0 55 (dk_at dksX10_init_11 21 rfl rfl)
theorem dX10_init_281 : decode cX10_init 281 = .ok (.iastore, 1) := dk_79 (dk_at dksX10_init_12 0 rfl rfl)
theorem dX10_init_282 : decode cX10_init 282 = .ok (.aastore, 1) := dk_83 (dk_at dksX10_init_12 1 rfl rfl)
theorem dX10_init_283 : decode cX10_init 283 = .ok (.iinc 5 1, 3) := dk_132 5 1 (dk_at dksX10_init_12 2 rfl rfl)
theorem dX10_init_286 : decode cX10_init 286 = .ok (.goto (-140), 3) := dk_167 255 116 (dk_at dksX10_init_12 5 rfl rfl)
theorem dX10_init_289 : decode cX10_init 289 = .ok (.aload_n 0, 1) := dk_42 (dk_at dksX10_init_12 8 rfl rfl)
theorem dX10_init_290 : decode cX10_init 290 = .ok (.iload_n 3, 1) := dk_29 (dk_at dksX10_init_12 9 rfl rfl)
theorem dX10_init_291 : decode cX10_init 291 = .ok (.iload_n 3, 1) := dk_29 (dk_at dksX10_init_12 10 rfl rfl)
theorem dX10_init_292 : decode cX10_init 292 = .ok (.multianewarray 62 2, 4) := by decide +kernel
theorem dX10_init_296 : decode cX10_init 296 = .ok (.putfield 64, 3) := dk_181 0 64 (dk_at dksX10_init_12 15 rfl rfl)
theorem dX10_init_299 : decode cX10_init 299 = .ok (.aload_n 0, 1) := dk_42 (dk_at dksX10_init_12 18 rfl rfl)
theorem dX10_init_300 : decode cX10_init 300 = .ok (.invokevirtual 67, 3) := dk_182 0 67 (dk_at dksX10_init_12 19 rfl rfl)
theorem dX10_init_303 : decode cX10_init 303 = .ok (.aload_n 0, 1) := dk_42 (dk_at dksX10_init_12 22 rfl rfl)
theorem dX10_init_304 : decode cX10_init 304 = .ok (.invokevirtual 70, 3) := dk_182 0 70 (dk_at dksX10_init_13 0 rfl rfl)
theorem dX10_init_307 : decode cX10_init 307 = .ok (.aload_n 0, 1) := dk_42 (dk_at dksX10_init_13 3 rfl rfl)
theorem dX10_init_308 : decode cX10_init 308 = .ok (.invokevirtual 73, 3) := dk_182 0 73 (dk_at dksX10_init_13 4 rfl rfl)
theorem dX10_init_311 : decode cX10_init 311 = .ok (.return_, 1) := dk_177 (dk_at dksX10_init_13 7 rfl rfl)
abbrev cX10_place : ByteArray := prog_19_method_2_code
def yX10_place : MethodName := ⟨RX10, "place", "(I)I"⟩
def dkwX10_place_1 : List UInt8 := [132, 2, 1, 167, 255, 232, 2, 172]
abbrev dktX10_place_1 : List UInt8 := dkwX10_place_1 ++ []
def dkwX10_place_0 : List UInt8 := [3, 61, 28, 42, 180, 0, 48, 190, 162, 0, 21, 42, 180, 0, 48, 28, 46, 27, 160, 0, 5, 28, 172]
abbrev dktX10_place_0 : List UInt8 := dkwX10_place_0 ++ dktX10_place_1
theorem dksX10_place_0 : cX10_place.data.toList.drop 0 = dktX10_place_0 := by decide +kernel
theorem dksX10_place_1 : cX10_place.data.toList.drop 23 = dktX10_place_1 := dk_seg dksX10_place_0 23 rfl rfl
theorem dX10_place_0 : decode cX10_place 0 = .ok (.iconst 0, 1) := dk_3 (dk_at dksX10_place_0 0 rfl rfl)
theorem dX10_place_1 : decode cX10_place 1 = .ok (.istore_n 2, 1) := dk_61 (dk_at dksX10_place_0 1 rfl rfl)
theorem dX10_place_2 : decode cX10_place 2 = .ok (.iload_n 2, 1) := dk_28 (dk_at dksX10_place_0 2 rfl rfl)
theorem dX10_place_3 : decode cX10_place 3 = .ok (.aload_n 0, 1) := dk_42 (dk_at dksX10_place_0 3 rfl rfl)
theorem dX10_place_4 : decode cX10_place 4 = .ok (.getfield 48, 3) := dk_180 0 48 (dk_at dksX10_place_0 4 rfl rfl)
theorem dX10_place_7 : decode cX10_place 7 = .ok (.arraylength, 1) := dk_190 (dk_at dksX10_place_0 7 rfl rfl)
theorem dX10_place_8 : decode cX10_place 8 = .ok (.if_icmp .ge 21, 3) := dk_162 0 21 (dk_at dksX10_place_0 8 rfl rfl)
theorem dX10_place_11 : decode cX10_place 11 = .ok (.aload_n 0, 1) := dk_42 (dk_at dksX10_place_0 11 rfl rfl)
theorem dX10_place_12 : decode cX10_place 12 = .ok (.getfield 48, 3) := dk_180 0 48 (dk_at dksX10_place_0 12 rfl rfl)
theorem dX10_place_15 : decode cX10_place 15 = .ok (.iload_n 2, 1) := dk_28 (dk_at dksX10_place_0 15 rfl rfl)
theorem dX10_place_16 : decode cX10_place 16 = .ok (.iaload, 1) := dk_46 (dk_at dksX10_place_0 16 rfl rfl)
theorem dX10_place_17 : decode cX10_place 17 = .ok (.iload_n 1, 1) := dk_27 (dk_at dksX10_place_0 17 rfl rfl)
theorem dX10_place_18 : decode cX10_place 18 = .ok (.if_icmp .ne 5, 3) := dk_160 0 5 (dk_at dksX10_place_0 18 rfl rfl)
theorem dX10_place_21 : decode cX10_place 21 = .ok (.iload_n 2, 1) := dk_28 (dk_at dksX10_place_0 21 rfl rfl)
theorem dX10_place_22 : decode cX10_place 22 = .ok (.ireturn, 1) := dk_172 (dk_at dksX10_place_0 22 rfl rfl)
theorem dX10_place_23 : decode cX10_place 23 = .ok (.iinc 2 1, 3) := dk_132 2 1 (dk_at dksX10_place_1 0 rfl rfl)
theorem dX10_place_26 : decode cX10_place 26 = .ok (.goto (-24), 3) := dk_167 255 232 (dk_at dksX10_place_1 3 rfl rfl)
theorem dX10_place_29 : decode cX10_place 29 = .ok (.iconst (-1), 1) := dk_2 (dk_at dksX10_place_1 6 rfl rfl)
theorem dX10_place_30 : decode cX10_place 30 = .ok (.ireturn, 1) := dk_172 (dk_at dksX10_place_1 7 rfl rfl)
abbrev cX10_arrange : ByteArray := prog_19_method_4_code
def yX10_arrange : MethodName := ⟨RX10, "arrange", "()V"⟩
def dkwX10_arrange_7 : List UInt8 := [79, 21, 4, 4, 21, 6, 120, 128, 54, 4, 132, 5, 1, 167, 255, 184, 177]
abbrev dktX10_arrange_7 : List UInt8 := dkwX10_arrange_7 ++ []
def dkwX10_arrange_6 : List UInt8 := [128, 46, 96, 45, 21, 4, 46, 159, 0, 9, 132, 6, 1, 167, 255, 217, 42, 180, 0, 88, 21, 5, 21, 6]
abbrev dktX10_arrange_6 : List UInt8 := dkwX10_arrange_6 ++ dktX10_arrange_7
def dkwX10_arrange_5 : List UInt8 := [21, 6, 122, 4, 126, 4, 159, 0, 28, 42, 21, 4, 21, 6, 182, 0, 79, 45, 21, 4, 4, 21, 6, 120]
abbrev dktX10_arrange_5 : List UInt8 := dkwX10_arrange_5 ++ dktX10_arrange_6
def dkwX10_arrange_4 : List UInt8 := [27, 188, 10, 181, 0, 88, 3, 54, 4, 3, 54, 5, 21, 5, 27, 162, 0, 72, 3, 54, 6, 21, 4]
abbrev dktX10_arrange_4 : List UInt8 := dkwX10_arrange_4 ++ dktX10_arrange_5
def dkwX10_arrange_3 : List UInt8 := [4, 21, 5, 120, 128, 46, 96, 184, 0, 83, 79, 132, 5, 1, 167, 255, 208, 132, 4, 255, 167, 255, 188, 42]
abbrev dktX10_arrange_3 : List UInt8 := dkwX10_arrange_3 ++ dktX10_arrange_4
def dkwX10_arrange_2 : List UInt8 := [122, 4, 126, 154, 0, 32, 45, 21, 4, 45, 21, 4, 46, 42, 21, 4, 21, 5, 182, 0, 79, 45, 21, 4]
abbrev dktX10_arrange_2 : List UInt8 := dkwX10_arrange_2 ++ dktX10_arrange_3
def dkwX10_arrange_1 : List UInt8 := [21, 4, 155, 0, 69, 45, 21, 4, 18, 78, 79, 3, 54, 5, 21, 5, 27, 162, 0, 48, 21, 4, 21, 5]
abbrev dktX10_arrange_1 : List UInt8 := dkwX10_arrange_1 ++ dktX10_arrange_2
def dkwX10_arrange_0 : List UInt8 := [42, 180, 0, 48, 190, 60, 4, 27, 120, 4, 100, 61, 28, 4, 96, 188, 10, 78, 28, 4, 100, 54, 4]
abbrev dktX10_arrange_0 : List UInt8 := dkwX10_arrange_0 ++ dktX10_arrange_1
theorem dksX10_arrange_0 : cX10_arrange.data.toList.drop 0 = dktX10_arrange_0 := by decide +kernel
theorem dksX10_arrange_1 : cX10_arrange.data.toList.drop 23 = dktX10_arrange_1 := dk_seg dksX10_arrange_0 23 rfl rfl
theorem dksX10_arrange_2 : cX10_arrange.data.toList.drop 47 = dktX10_arrange_2 := dk_seg dksX10_arrange_1 24 rfl rfl
theorem dksX10_arrange_3 : cX10_arrange.data.toList.drop 71 = dktX10_arrange_3 := dk_seg dksX10_arrange_2 24 rfl rfl
theorem dksX10_arrange_4 : cX10_arrange.data.toList.drop 95 = dktX10_arrange_4 := dk_seg dksX10_arrange_3 24 rfl rfl
theorem dksX10_arrange_5 : cX10_arrange.data.toList.drop 118 = dktX10_arrange_5 := dk_seg dksX10_arrange_4 23 rfl rfl
theorem dksX10_arrange_6 : cX10_arrange.data.toList.drop 142 = dktX10_arrange_6 := dk_seg dksX10_arrange_5 24 rfl rfl
theorem dksX10_arrange_7 : cX10_arrange.data.toList.drop 166 = dktX10_arrange_7 := dk_seg dksX10_arrange_6 24 rfl rfl
theorem dX10_arrange_0 : decode cX10_arrange 0 = .ok (.aload_n 0, 1) := dk_42 (dk_at dksX10_arrange_0 0 rfl rfl)
theorem dX10_arrange_1 : decode cX10_arrange 1 = .ok (.getfield 48, 3) := dk_180 0 48 (dk_at dksX10_arrange_0 1 rfl rfl)
theorem dX10_arrange_4 : decode cX10_arrange 4 = .ok (.arraylength, 1) := dk_190 (dk_at dksX10_arrange_0 4 rfl rfl)
theorem dX10_arrange_5 : decode cX10_arrange 5 = .ok (.istore_n 1, 1) := dk_60 (dk_at dksX10_arrange_0 5 rfl rfl)
theorem dX10_arrange_6 : decode cX10_arrange 6 = .ok (.iconst 1, 1) := dk_4 (dk_at dksX10_arrange_0 6 rfl rfl)
theorem dX10_arrange_7 : decode cX10_arrange 7 = .ok (.iload_n 1, 1) := dk_27 (dk_at dksX10_arrange_0 7 rfl rfl)
theorem dX10_arrange_8 : decode cX10_arrange 8 = .ok (.ishl, 1) := dk_120 (dk_at dksX10_arrange_0 8 rfl rfl)
theorem dX10_arrange_9 : decode cX10_arrange 9 = .ok (.iconst 1, 1) := dk_4 (dk_at dksX10_arrange_0 9 rfl rfl)
theorem dX10_arrange_10 : decode cX10_arrange 10 = .ok (.isub, 1) := dk_100 (dk_at dksX10_arrange_0 10 rfl rfl)
theorem dX10_arrange_11 : decode cX10_arrange 11 = .ok (.istore_n 2, 1) := dk_61 (dk_at dksX10_arrange_0 11 rfl rfl)
theorem dX10_arrange_12 : decode cX10_arrange 12 = .ok (.iload_n 2, 1) := dk_28 (dk_at dksX10_arrange_0 12 rfl rfl)
theorem dX10_arrange_13 : decode cX10_arrange 13 = .ok (.iconst 1, 1) := dk_4 (dk_at dksX10_arrange_0 13 rfl rfl)
theorem dX10_arrange_14 : decode cX10_arrange 14 = .ok (.iadd, 1) := dk_96 (dk_at dksX10_arrange_0 14 rfl rfl)
theorem dX10_arrange_15 : decode cX10_arrange 15 = .ok (.newarray .int, 2) := dk_188_10 (dk_at dksX10_arrange_0 15 rfl rfl)
theorem dX10_arrange_17 : decode cX10_arrange 17 = .ok (.astore_n 3, 1) := dk_78 (dk_at dksX10_arrange_0 17 rfl rfl)
theorem dX10_arrange_18 : decode cX10_arrange 18 = .ok (.iload_n 2, 1) := dk_28 (dk_at dksX10_arrange_0 18 rfl rfl)
theorem dX10_arrange_19 : decode cX10_arrange 19 = .ok (.iconst 1, 1) := dk_4 (dk_at dksX10_arrange_0 19 rfl rfl)
theorem dX10_arrange_20 : decode cX10_arrange 20 = .ok (.isub, 1) := dk_100 (dk_at dksX10_arrange_0 20 rfl rfl)
theorem dX10_arrange_21 : decode cX10_arrange 21 = .ok (.istore 4, 2) := dk_54 4 (dk_at dksX10_arrange_0 21 rfl rfl)
theorem dX10_arrange_23 : decode cX10_arrange 23 = .ok (.iload 4, 2) := dk_21 4 (dk_at dksX10_arrange_1 0 rfl rfl)
theorem dX10_arrange_25 : decode cX10_arrange 25 = .ok (.ifCond .lt 69, 3) := dk_155 0 69 (dk_at dksX10_arrange_1 2 rfl rfl)
theorem dX10_arrange_28 : decode cX10_arrange 28 = .ok (.aload_n 3, 1) := dk_45 (dk_at dksX10_arrange_1 5 rfl rfl)
theorem dX10_arrange_29 : decode cX10_arrange 29 = .ok (.iload 4, 2) := dk_21 4 (dk_at dksX10_arrange_1 6 rfl rfl)
theorem dX10_arrange_31 : decode cX10_arrange 31 = .ok (.ldc 78, 2) := dk_18 78 (dk_at dksX10_arrange_1 8 rfl rfl)
theorem dX10_arrange_33 : decode cX10_arrange 33 = .ok (.iastore, 1) := dk_79 (dk_at dksX10_arrange_1 10 rfl rfl)
theorem dX10_arrange_34 : decode cX10_arrange 34 = .ok (.iconst 0, 1) := dk_3 (dk_at dksX10_arrange_1 11 rfl rfl)
theorem dX10_arrange_35 : decode cX10_arrange 35 = .ok (.istore 5, 2) := dk_54 5 (dk_at dksX10_arrange_1 12 rfl rfl)
theorem dX10_arrange_37 : decode cX10_arrange 37 = .ok (.iload 5, 2) := dk_21 5 (dk_at dksX10_arrange_1 14 rfl rfl)
theorem dX10_arrange_39 : decode cX10_arrange 39 = .ok (.iload_n 1, 1) := dk_27 (dk_at dksX10_arrange_1 16 rfl rfl)
theorem dX10_arrange_40 : decode cX10_arrange 40 = .ok (.if_icmp .ge 48, 3) := dk_162 0 48 (dk_at dksX10_arrange_1 17 rfl rfl)
theorem dX10_arrange_43 : decode cX10_arrange 43 = .ok (.iload 4, 2) := dk_21 4 (dk_at dksX10_arrange_1 20 rfl rfl)
theorem dX10_arrange_45 : decode cX10_arrange 45 = .ok (.iload 5, 2) := dk_21 5 (dk_at dksX10_arrange_1 22 rfl rfl)
theorem dX10_arrange_47 : decode cX10_arrange 47 = .ok (.ishr, 1) := dk_122 (dk_at dksX10_arrange_2 0 rfl rfl)
theorem dX10_arrange_48 : decode cX10_arrange 48 = .ok (.iconst 1, 1) := dk_4 (dk_at dksX10_arrange_2 1 rfl rfl)
theorem dX10_arrange_49 : decode cX10_arrange 49 = .ok (.iand, 1) := dk_126 (dk_at dksX10_arrange_2 2 rfl rfl)
theorem dX10_arrange_50 : decode cX10_arrange 50 = .ok (.ifCond .ne 32, 3) := dk_154 0 32 (dk_at dksX10_arrange_2 3 rfl rfl)
theorem dX10_arrange_53 : decode cX10_arrange 53 = .ok (.aload_n 3, 1) := dk_45 (dk_at dksX10_arrange_2 6 rfl rfl)
theorem dX10_arrange_54 : decode cX10_arrange 54 = .ok (.iload 4, 2) := dk_21 4 (dk_at dksX10_arrange_2 7 rfl rfl)
theorem dX10_arrange_56 : decode cX10_arrange 56 = .ok (.aload_n 3, 1) := dk_45 (dk_at dksX10_arrange_2 9 rfl rfl)
theorem dX10_arrange_57 : decode cX10_arrange 57 = .ok (.iload 4, 2) := dk_21 4 (dk_at dksX10_arrange_2 10 rfl rfl)
theorem dX10_arrange_59 : decode cX10_arrange 59 = .ok (.iaload, 1) := dk_46 (dk_at dksX10_arrange_2 12 rfl rfl)
theorem dX10_arrange_60 : decode cX10_arrange 60 = .ok (.aload_n 0, 1) := dk_42 (dk_at dksX10_arrange_2 13 rfl rfl)
theorem dX10_arrange_61 : decode cX10_arrange 61 = .ok (.iload 4, 2) := dk_21 4 (dk_at dksX10_arrange_2 14 rfl rfl)
theorem dX10_arrange_63 : decode cX10_arrange 63 = .ok (.iload 5, 2) := dk_21 5 (dk_at dksX10_arrange_2 16 rfl rfl)
theorem dX10_arrange_65 : decode cX10_arrange 65 = .ok (.invokevirtual 79, 3) := dk_182 0 79 (dk_at dksX10_arrange_2 18 rfl rfl)
theorem dX10_arrange_68 : decode cX10_arrange 68 = .ok (.aload_n 3, 1) := dk_45 (dk_at dksX10_arrange_2 21 rfl rfl)
theorem dX10_arrange_69 : decode cX10_arrange 69 = .ok (.iload 4, 2) := dk_21 4 (dk_at dksX10_arrange_2 22 rfl rfl)
theorem dX10_arrange_71 : decode cX10_arrange 71 = .ok (.iconst 1, 1) := dk_4 (dk_at dksX10_arrange_3 0 rfl rfl)
theorem dX10_arrange_72 : decode cX10_arrange 72 = .ok (.iload 5, 2) := dk_21 5 (dk_at dksX10_arrange_3 1 rfl rfl)
theorem dX10_arrange_74 : decode cX10_arrange 74 = .ok (.ishl, 1) := dk_120 (dk_at dksX10_arrange_3 3 rfl rfl)
theorem dX10_arrange_75 : decode cX10_arrange 75 = .ok (.ior, 1) := dk_128 (dk_at dksX10_arrange_3 4 rfl rfl)
theorem dX10_arrange_76 : decode cX10_arrange 76 = .ok (.iaload, 1) := dk_46 (dk_at dksX10_arrange_3 5 rfl rfl)
theorem dX10_arrange_77 : decode cX10_arrange 77 = .ok (.iadd, 1) := dk_96 (dk_at dksX10_arrange_3 6 rfl rfl)
theorem dX10_arrange_78 : decode cX10_arrange 78 = .ok (.invokestatic 83, 3) := dk_184 0 83 (dk_at dksX10_arrange_3 7 rfl rfl)
theorem dX10_arrange_81 : decode cX10_arrange 81 = .ok (.iastore, 1) := dk_79 (dk_at dksX10_arrange_3 10 rfl rfl)
theorem dX10_arrange_82 : decode cX10_arrange 82 = .ok (.iinc 5 1, 3) := dk_132 5 1 (dk_at dksX10_arrange_3 11 rfl rfl)
theorem dX10_arrange_85 : decode cX10_arrange 85 = .ok (.goto (-48), 3) := dk_167 255 208 (dk_at dksX10_arrange_3 14 rfl rfl)
theorem dX10_arrange_88 : decode cX10_arrange 88 = .ok (.iinc 4 (-1), 3) := dk_132 4 255 (dk_at dksX10_arrange_3 17 rfl rfl)
theorem dX10_arrange_91 : decode cX10_arrange 91 = .ok (.goto (-68), 3) := dk_167 255 188 (dk_at dksX10_arrange_3 20 rfl rfl)
theorem dX10_arrange_94 : decode cX10_arrange 94 = .ok (.aload_n 0, 1) := dk_42 (dk_at dksX10_arrange_3 23 rfl rfl)
theorem dX10_arrange_95 : decode cX10_arrange 95 = .ok (.iload_n 1, 1) := dk_27 (dk_at dksX10_arrange_4 0 rfl rfl)
theorem dX10_arrange_96 : decode cX10_arrange 96 = .ok (.newarray .int, 2) := dk_188_10 (dk_at dksX10_arrange_4 1 rfl rfl)
theorem dX10_arrange_98 : decode cX10_arrange 98 = .ok (.putfield 88, 3) := dk_181 0 88 (dk_at dksX10_arrange_4 3 rfl rfl)
theorem dX10_arrange_101 : decode cX10_arrange 101 = .ok (.iconst 0, 1) := dk_3 (dk_at dksX10_arrange_4 6 rfl rfl)
theorem dX10_arrange_102 : decode cX10_arrange 102 = .ok (.istore 4, 2) := dk_54 4 (dk_at dksX10_arrange_4 7 rfl rfl)
theorem dX10_arrange_104 : decode cX10_arrange 104 = .ok (.iconst 0, 1) := dk_3 (dk_at dksX10_arrange_4 9 rfl rfl)
theorem dX10_arrange_105 : decode cX10_arrange 105 = .ok (.istore 5, 2) := dk_54 5 (dk_at dksX10_arrange_4 10 rfl rfl)
theorem dX10_arrange_107 : decode cX10_arrange 107 = .ok (.iload 5, 2) := dk_21 5 (dk_at dksX10_arrange_4 12 rfl rfl)
theorem dX10_arrange_109 : decode cX10_arrange 109 = .ok (.iload_n 1, 1) := dk_27 (dk_at dksX10_arrange_4 14 rfl rfl)
theorem dX10_arrange_110 : decode cX10_arrange 110 = .ok (.if_icmp .ge 72, 3) := dk_162 0 72 (dk_at dksX10_arrange_4 15 rfl rfl)
theorem dX10_arrange_113 : decode cX10_arrange 113 = .ok (.iconst 0, 1) := dk_3 (dk_at dksX10_arrange_4 18 rfl rfl)
theorem dX10_arrange_114 : decode cX10_arrange 114 = .ok (.istore 6, 2) := dk_54 6 (dk_at dksX10_arrange_4 19 rfl rfl)
theorem dX10_arrange_116 : decode cX10_arrange 116 = .ok (.iload 4, 2) := dk_21 4 (dk_at dksX10_arrange_4 21 rfl rfl)
theorem dX10_arrange_118 : decode cX10_arrange 118 = .ok (.iload 6, 2) := dk_21 6 (dk_at dksX10_arrange_5 0 rfl rfl)
theorem dX10_arrange_120 : decode cX10_arrange 120 = .ok (.ishr, 1) := dk_122 (dk_at dksX10_arrange_5 2 rfl rfl)
theorem dX10_arrange_121 : decode cX10_arrange 121 = .ok (.iconst 1, 1) := dk_4 (dk_at dksX10_arrange_5 3 rfl rfl)
theorem dX10_arrange_122 : decode cX10_arrange 122 = .ok (.iand, 1) := dk_126 (dk_at dksX10_arrange_5 4 rfl rfl)
theorem dX10_arrange_123 : decode cX10_arrange 123 = .ok (.iconst 1, 1) := dk_4 (dk_at dksX10_arrange_5 5 rfl rfl)
theorem dX10_arrange_124 : decode cX10_arrange 124 = .ok (.if_icmp .eq 28, 3) := dk_159 0 28 (dk_at dksX10_arrange_5 6 rfl rfl)
theorem dX10_arrange_127 : decode cX10_arrange 127 = .ok (.aload_n 0, 1) := dk_42 (dk_at dksX10_arrange_5 9 rfl rfl)
theorem dX10_arrange_128 : decode cX10_arrange 128 = .ok (.iload 4, 2) := dk_21 4 (dk_at dksX10_arrange_5 10 rfl rfl)
theorem dX10_arrange_130 : decode cX10_arrange 130 = .ok (.iload 6, 2) := dk_21 6 (dk_at dksX10_arrange_5 12 rfl rfl)
theorem dX10_arrange_132 : decode cX10_arrange 132 = .ok (.invokevirtual 79, 3) := dk_182 0 79 (dk_at dksX10_arrange_5 14 rfl rfl)
theorem dX10_arrange_135 : decode cX10_arrange 135 = .ok (.aload_n 3, 1) := dk_45 (dk_at dksX10_arrange_5 17 rfl rfl)
theorem dX10_arrange_136 : decode cX10_arrange 136 = .ok (.iload 4, 2) := dk_21 4 (dk_at dksX10_arrange_5 18 rfl rfl)
theorem dX10_arrange_138 : decode cX10_arrange 138 = .ok (.iconst 1, 1) := dk_4 (dk_at dksX10_arrange_5 20 rfl rfl)
theorem dX10_arrange_139 : decode cX10_arrange 139 = .ok (.iload 6, 2) := dk_21 6 (dk_at dksX10_arrange_5 21 rfl rfl)
theorem dX10_arrange_141 : decode cX10_arrange 141 = .ok (.ishl, 1) := dk_120 (dk_at dksX10_arrange_5 23 rfl rfl)
theorem dX10_arrange_142 : decode cX10_arrange 142 = .ok (.ior, 1) := dk_128 (dk_at dksX10_arrange_6 0 rfl rfl)
theorem dX10_arrange_143 : decode cX10_arrange 143 = .ok (.iaload, 1) := dk_46 (dk_at dksX10_arrange_6 1 rfl rfl)
theorem dX10_arrange_144 : decode cX10_arrange 144 = .ok (.iadd, 1) := dk_96 (dk_at dksX10_arrange_6 2 rfl rfl)
theorem dX10_arrange_145 : decode cX10_arrange 145 = .ok (.aload_n 3, 1) := dk_45 (dk_at dksX10_arrange_6 3 rfl rfl)
theorem dX10_arrange_146 : decode cX10_arrange 146 = .ok (.iload 4, 2) := dk_21 4 (dk_at dksX10_arrange_6 4 rfl rfl)
theorem dX10_arrange_148 : decode cX10_arrange 148 = .ok (.iaload, 1) := dk_46 (dk_at dksX10_arrange_6 6 rfl rfl)
theorem dX10_arrange_149 : decode cX10_arrange 149 = .ok (.if_icmp .eq 9, 3) := dk_159 0 9 (dk_at dksX10_arrange_6 7 rfl rfl)
theorem dX10_arrange_152 : decode cX10_arrange 152 = .ok (.iinc 6 1, 3) := dk_132 6 1 (dk_at dksX10_arrange_6 10 rfl rfl)
theorem dX10_arrange_155 : decode cX10_arrange 155 = .ok (.goto (-39), 3) := dk_167 255 217 (dk_at dksX10_arrange_6 13 rfl rfl)
theorem dX10_arrange_158 : decode cX10_arrange 158 = .ok (.aload_n 0, 1) := dk_42 (dk_at dksX10_arrange_6 16 rfl rfl)
theorem dX10_arrange_159 : decode cX10_arrange 159 = .ok (.getfield 88, 3) := dk_180 0 88 (dk_at dksX10_arrange_6 17 rfl rfl)
theorem dX10_arrange_162 : decode cX10_arrange 162 = .ok (.iload 5, 2) := dk_21 5 (dk_at dksX10_arrange_6 20 rfl rfl)
theorem dX10_arrange_164 : decode cX10_arrange 164 = .ok (.iload 6, 2) := dk_21 6 (dk_at dksX10_arrange_6 22 rfl rfl)
theorem dX10_arrange_166 : decode cX10_arrange 166 = .ok (.iastore, 1) := dk_79 (dk_at dksX10_arrange_7 0 rfl rfl)
theorem dX10_arrange_167 : decode cX10_arrange 167 = .ok (.iload 4, 2) := dk_21 4 (dk_at dksX10_arrange_7 1 rfl rfl)
theorem dX10_arrange_169 : decode cX10_arrange 169 = .ok (.iconst 1, 1) := dk_4 (dk_at dksX10_arrange_7 3 rfl rfl)
theorem dX10_arrange_170 : decode cX10_arrange 170 = .ok (.iload 6, 2) := dk_21 6 (dk_at dksX10_arrange_7 4 rfl rfl)
theorem dX10_arrange_172 : decode cX10_arrange 172 = .ok (.ishl, 1) := dk_120 (dk_at dksX10_arrange_7 6 rfl rfl)
theorem dX10_arrange_173 : decode cX10_arrange 173 = .ok (.ior, 1) := dk_128 (dk_at dksX10_arrange_7 7 rfl rfl)
theorem dX10_arrange_174 : decode cX10_arrange 174 = .ok (.istore 4, 2) := dk_54 4 (dk_at dksX10_arrange_7 8 rfl rfl)
theorem dX10_arrange_176 : decode cX10_arrange 176 = .ok (.iinc 5 1, 3) := dk_132 5 1 (dk_at dksX10_arrange_7 10 rfl rfl)
theorem dX10_arrange_179 : decode cX10_arrange 179 = .ok (.goto (-72), 3) := dk_167 255 184 (dk_at dksX10_arrange_7 13 rfl rfl)
theorem dX10_arrange_182 : decode cX10_arrange 182 = .ok (.return_, 1) := dk_177 (dk_at dksX10_arrange_7 16 rfl rfl)
abbrev cX10_cost : ByteArray := prog_19_method_3_code
def yX10_cost : MethodName := ⟨RX10, "cost", "(II)I"⟩
def dkwX10_cost_3 : List UInt8 := [132, 4, 1, 167, 255, 188, 29, 172]
abbrev dktX10_cost_3 : List UInt8 := dkwX10_cost_3 ++ []
def dkwX10_cost_2 : List UInt8 := [180, 0, 21, 42, 180, 0, 17, 21, 4, 50, 3, 46, 182, 0, 51, 192, 0, 15, 6, 46, 96, 62]
abbrev dktX10_cost_2 : List UInt8 := dkwX10_cost_2 ++ dktX10_cost_3
def dkwX10_cost_1 : List UInt8 := [160, 0, 46, 27, 42, 180, 0, 17, 21, 4, 50, 5, 46, 122, 4, 126, 154, 0, 30, 29, 42, 180, 0, 3]
abbrev dktX10_cost_1 : List UInt8 := dkwX10_cost_1 ++ dktX10_cost_2
def dkwX10_cost_0 : List UInt8 := [3, 62, 3, 54, 4, 21, 4, 42, 180, 0, 58, 162, 0, 65, 42, 180, 0, 17, 21, 4, 50, 4, 46, 28]
abbrev dktX10_cost_0 : List UInt8 := dkwX10_cost_0 ++ dktX10_cost_1
theorem dksX10_cost_0 : cX10_cost.data.toList.drop 0 = dktX10_cost_0 := by decide +kernel
theorem dksX10_cost_1 : cX10_cost.data.toList.drop 24 = dktX10_cost_1 := dk_seg dksX10_cost_0 24 rfl rfl
theorem dksX10_cost_2 : cX10_cost.data.toList.drop 48 = dktX10_cost_2 := dk_seg dksX10_cost_1 24 rfl rfl
theorem dksX10_cost_3 : cX10_cost.data.toList.drop 70 = dktX10_cost_3 := dk_seg dksX10_cost_2 22 rfl rfl
theorem dX10_cost_0 : decode cX10_cost 0 = .ok (.iconst 0, 1) := dk_3 (dk_at dksX10_cost_0 0 rfl rfl)
theorem dX10_cost_1 : decode cX10_cost 1 = .ok (.istore_n 3, 1) := dk_62 (dk_at dksX10_cost_0 1 rfl rfl)
theorem dX10_cost_2 : decode cX10_cost 2 = .ok (.iconst 0, 1) := dk_3 (dk_at dksX10_cost_0 2 rfl rfl)
theorem dX10_cost_3 : decode cX10_cost 3 = .ok (.istore 4, 2) := dk_54 4 (dk_at dksX10_cost_0 3 rfl rfl)
theorem dX10_cost_5 : decode cX10_cost 5 = .ok (.iload 4, 2) := dk_21 4 (dk_at dksX10_cost_0 5 rfl rfl)
theorem dX10_cost_7 : decode cX10_cost 7 = .ok (.aload_n 0, 1) := dk_42 (dk_at dksX10_cost_0 7 rfl rfl)
theorem dX10_cost_8 : decode cX10_cost 8 = .ok (.getfield 58, 3) := dk_180 0 58 (dk_at dksX10_cost_0 8 rfl rfl)
theorem dX10_cost_11 : decode cX10_cost 11 = .ok (.if_icmp .ge 65, 3) := dk_162 0 65 (dk_at dksX10_cost_0 11 rfl rfl)
theorem dX10_cost_14 : decode cX10_cost 14 = .ok (.aload_n 0, 1) := dk_42 (dk_at dksX10_cost_0 14 rfl rfl)
theorem dX10_cost_15 : decode cX10_cost 15 = .ok (.getfield 17, 3) := dk_180 0 17 (dk_at dksX10_cost_0 15 rfl rfl)
theorem dX10_cost_18 : decode cX10_cost 18 = .ok (.iload 4, 2) := dk_21 4 (dk_at dksX10_cost_0 18 rfl rfl)
theorem dX10_cost_20 : decode cX10_cost 20 = .ok (.aaload, 1) := dk_50 (dk_at dksX10_cost_0 20 rfl rfl)
theorem dX10_cost_21 : decode cX10_cost 21 = .ok (.iconst 1, 1) := dk_4 (dk_at dksX10_cost_0 21 rfl rfl)
theorem dX10_cost_22 : decode cX10_cost 22 = .ok (.iaload, 1) := dk_46 (dk_at dksX10_cost_0 22 rfl rfl)
theorem dX10_cost_23 : decode cX10_cost 23 = .ok (.iload_n 2, 1) := dk_28 (dk_at dksX10_cost_0 23 rfl rfl)
theorem dX10_cost_24 : decode cX10_cost 24 = .ok (.if_icmp .ne 46, 3) := dk_160 0 46 (dk_at dksX10_cost_1 0 rfl rfl)
theorem dX10_cost_27 : decode cX10_cost 27 = .ok (.iload_n 1, 1) := dk_27 (dk_at dksX10_cost_1 3 rfl rfl)
theorem dX10_cost_28 : decode cX10_cost 28 = .ok (.aload_n 0, 1) := dk_42 (dk_at dksX10_cost_1 4 rfl rfl)
theorem dX10_cost_29 : decode cX10_cost 29 = .ok (.getfield 17, 3) := dk_180 0 17 (dk_at dksX10_cost_1 5 rfl rfl)
theorem dX10_cost_32 : decode cX10_cost 32 = .ok (.iload 4, 2) := dk_21 4 (dk_at dksX10_cost_1 8 rfl rfl)
theorem dX10_cost_34 : decode cX10_cost 34 = .ok (.aaload, 1) := dk_50 (dk_at dksX10_cost_1 10 rfl rfl)
theorem dX10_cost_35 : decode cX10_cost 35 = .ok (.iconst 2, 1) := dk_5 (dk_at dksX10_cost_1 11 rfl rfl)
theorem dX10_cost_36 : decode cX10_cost 36 = .ok (.iaload, 1) := dk_46 (dk_at dksX10_cost_1 12 rfl rfl)
theorem dX10_cost_37 : decode cX10_cost 37 = .ok (.ishr, 1) := dk_122 (dk_at dksX10_cost_1 13 rfl rfl)
theorem dX10_cost_38 : decode cX10_cost 38 = .ok (.iconst 1, 1) := dk_4 (dk_at dksX10_cost_1 14 rfl rfl)
theorem dX10_cost_39 : decode cX10_cost 39 = .ok (.iand, 1) := dk_126 (dk_at dksX10_cost_1 15 rfl rfl)
theorem dX10_cost_40 : decode cX10_cost 40 = .ok (.ifCond .ne 30, 3) := dk_154 0 30 (dk_at dksX10_cost_1 16 rfl rfl)
theorem dX10_cost_43 : decode cX10_cost 43 = .ok (.iload_n 3, 1) := dk_29 (dk_at dksX10_cost_1 19 rfl rfl)
theorem dX10_cost_44 : decode cX10_cost 44 = .ok (.aload_n 0, 1) := dk_42 (dk_at dksX10_cost_1 20 rfl rfl)
theorem dX10_cost_45 : decode cX10_cost 45 = .ok (.getfield 3, 3) := dk_180 0 3 (dk_at dksX10_cost_1 21 rfl rfl)
theorem dX10_cost_48 : decode cX10_cost 48 = .ok (.getfield 21, 3) := dk_180 0 21 (dk_at dksX10_cost_2 0 rfl rfl)
theorem dX10_cost_51 : decode cX10_cost 51 = .ok (.aload_n 0, 1) := dk_42 (dk_at dksX10_cost_2 3 rfl rfl)
theorem dX10_cost_52 : decode cX10_cost 52 = .ok (.getfield 17, 3) := dk_180 0 17 (dk_at dksX10_cost_2 4 rfl rfl)
theorem dX10_cost_55 : decode cX10_cost 55 = .ok (.iload 4, 2) := dk_21 4 (dk_at dksX10_cost_2 7 rfl rfl)
theorem dX10_cost_57 : decode cX10_cost 57 = .ok (.aaload, 1) := dk_50 (dk_at dksX10_cost_2 9 rfl rfl)
theorem dX10_cost_58 : decode cX10_cost 58 = .ok (.iconst 0, 1) := dk_3 (dk_at dksX10_cost_2 10 rfl rfl)
theorem dX10_cost_59 : decode cX10_cost 59 = .ok (.iaload, 1) := dk_46 (dk_at dksX10_cost_2 11 rfl rfl)
theorem dX10_cost_60 : decode cX10_cost 60 = .ok (.invokevirtual 51, 3) := dk_182 0 51 (dk_at dksX10_cost_2 12 rfl rfl)
theorem dX10_cost_63 : decode cX10_cost 63 = .ok (.checkcast 15, 3) := dk_192 0 15 (dk_at dksX10_cost_2 15 rfl rfl)
theorem dX10_cost_66 : decode cX10_cost 66 = .ok (.iconst 3, 1) := dk_6 (dk_at dksX10_cost_2 18 rfl rfl)
theorem dX10_cost_67 : decode cX10_cost 67 = .ok (.iaload, 1) := dk_46 (dk_at dksX10_cost_2 19 rfl rfl)
theorem dX10_cost_68 : decode cX10_cost 68 = .ok (.iadd, 1) := dk_96 (dk_at dksX10_cost_2 20 rfl rfl)
theorem dX10_cost_69 : decode cX10_cost 69 = .ok (.istore_n 3, 1) := dk_62 (dk_at dksX10_cost_2 21 rfl rfl)
theorem dX10_cost_70 : decode cX10_cost 70 = .ok (.iinc 4 1, 3) := dk_132 4 1 (dk_at dksX10_cost_3 0 rfl rfl)
theorem dX10_cost_73 : decode cX10_cost 73 = .ok (.goto (-68), 3) := dk_167 255 188 (dk_at dksX10_cost_3 3 rfl rfl)
theorem dX10_cost_76 : decode cX10_cost 76 = .ok (.iload_n 3, 1) := dk_29 (dk_at dksX10_cost_3 6 rfl rfl)
theorem dX10_cost_77 : decode cX10_cost 77 = .ok (.ireturn, 1) := dk_172 (dk_at dksX10_cost_3 7 rfl rfl)
abbrev cX10_climb : ByteArray := prog_19_method_5_code
def yX10_climb : MethodName := ⟨RX10, "climb", "()V"⟩
def dkwX10_climb_8 : List UInt8 := [3, 128, 84, 132, 5, 1, 167, 255, 205, 132, 4, 1, 167, 255, 190, 132, 3, 1, 167, 255, 176, 177]
abbrev dktX10_climb_8 : List UInt8 := dkwX10_climb_8 ++ []
def dkwX10_climb_7 : List UInt8 := [21, 4, 50, 29, 51, 153, 0, 19, 42, 180, 0, 64, 29, 50, 21, 5, 51, 153, 0, 7, 4, 167, 0, 4]
abbrev dktX10_climb_7 : List UInt8 := dkwX10_climb_7 ++ dktX10_climb_8
def dkwX10_climb_6 : List UInt8 := [54, 5, 21, 5, 27, 162, 0, 51, 42, 180, 0, 64, 21, 4, 50, 21, 5, 92, 51, 42, 180, 0, 64]
abbrev dktX10_climb_6 : List UInt8 := dkwX10_climb_6 ++ dktX10_climb_7
def dkwX10_climb_5 : List UInt8 := [84, 132, 3, 1, 167, 255, 167, 3, 62, 29, 27, 162, 0, 81, 3, 54, 4, 21, 4, 27, 162, 0, 66, 3]
abbrev dktX10_climb_5 : List UInt8 := dkwX10_climb_5 ++ dktX10_climb_6
def dkwX10_climb_4 : List UInt8 := [21, 4, 50, 21, 5, 92, 51, 44, 21, 4, 46, 44, 21, 5, 46, 164, 0, 7, 4, 167, 0, 4, 3, 128]
abbrev dktX10_climb_4 : List UInt8 := dkwX10_climb_4 ++ dktX10_climb_5
def dkwX10_climb_3 : List UInt8 := [3, 46, 44, 21, 4, 46, 44, 21, 5, 46, 162, 0, 7, 4, 167, 0, 4, 3, 84, 42, 180, 0, 64]
abbrev dktX10_climb_3 : List UInt8 := dkwX10_climb_3 ++ dktX10_climb_4
def dkwX10_climb_2 : List UInt8 := [4, 46, 54, 4, 42, 180, 0, 17, 29, 50, 5, 46, 54, 5, 42, 180, 0, 35, 42, 180, 0, 17, 29, 50]
abbrev dktX10_climb_2 : List UInt8 := dkwX10_climb_2 ++ dktX10_climb_3
def dkwX10_climb_1 : List UInt8 := [29, 79, 132, 3, 1, 167, 255, 239, 3, 62, 29, 42, 180, 0, 58, 162, 0, 87, 42, 180, 0, 17, 29, 50]
abbrev dktX10_climb_1 : List UInt8 := dkwX10_climb_1 ++ dktX10_climb_2
def dkwX10_climb_0 : List UInt8 := [42, 180, 0, 48, 190, 60, 27, 188, 10, 77, 3, 62, 29, 27, 162, 0, 18, 44, 42, 180, 0, 88, 29, 46]
abbrev dktX10_climb_0 : List UInt8 := dkwX10_climb_0 ++ dktX10_climb_1
theorem dksX10_climb_0 : cX10_climb.data.toList.drop 0 = dktX10_climb_0 := by decide +kernel
theorem dksX10_climb_1 : cX10_climb.data.toList.drop 24 = dktX10_climb_1 := dk_seg dksX10_climb_0 24 rfl rfl
theorem dksX10_climb_2 : cX10_climb.data.toList.drop 48 = dktX10_climb_2 := dk_seg dksX10_climb_1 24 rfl rfl
theorem dksX10_climb_3 : cX10_climb.data.toList.drop 72 = dktX10_climb_3 := dk_seg dksX10_climb_2 24 rfl rfl
theorem dksX10_climb_4 : cX10_climb.data.toList.drop 95 = dktX10_climb_4 := dk_seg dksX10_climb_3 23 rfl rfl
theorem dksX10_climb_5 : cX10_climb.data.toList.drop 119 = dktX10_climb_5 := dk_seg dksX10_climb_4 24 rfl rfl
theorem dksX10_climb_6 : cX10_climb.data.toList.drop 143 = dktX10_climb_6 := dk_seg dksX10_climb_5 24 rfl rfl
theorem dksX10_climb_7 : cX10_climb.data.toList.drop 166 = dktX10_climb_7 := dk_seg dksX10_climb_6 23 rfl rfl
theorem dksX10_climb_8 : cX10_climb.data.toList.drop 190 = dktX10_climb_8 := dk_seg dksX10_climb_7 24 rfl rfl
theorem dX10_climb_0 : decode cX10_climb 0 = .ok (.aload_n 0, 1) := dk_42 (dk_at dksX10_climb_0 0 rfl rfl)
theorem dX10_climb_1 : decode cX10_climb 1 = .ok (.getfield 48, 3) := dk_180 0 48 (dk_at dksX10_climb_0 1 rfl rfl)
theorem dX10_climb_4 : decode cX10_climb 4 = .ok (.arraylength, 1) := dk_190 (dk_at dksX10_climb_0 4 rfl rfl)
theorem dX10_climb_5 : decode cX10_climb 5 = .ok (.istore_n 1, 1) := dk_60 (dk_at dksX10_climb_0 5 rfl rfl)
theorem dX10_climb_6 : decode cX10_climb 6 = .ok (.iload_n 1, 1) := dk_27 (dk_at dksX10_climb_0 6 rfl rfl)
theorem dX10_climb_7 : decode cX10_climb 7 = .ok (.newarray .int, 2) := dk_188_10 (dk_at dksX10_climb_0 7 rfl rfl)
theorem dX10_climb_9 : decode cX10_climb 9 = .ok (.astore_n 2, 1) := dk_77 (dk_at dksX10_climb_0 9 rfl rfl)
theorem dX10_climb_10 : decode cX10_climb 10 = .ok (.iconst 0, 1) := dk_3 (dk_at dksX10_climb_0 10 rfl rfl)
theorem dX10_climb_11 : decode cX10_climb 11 = .ok (.istore_n 3, 1) := dk_62 (dk_at dksX10_climb_0 11 rfl rfl)
theorem dX10_climb_12 : decode cX10_climb 12 = .ok (.iload_n 3, 1) := dk_29 (dk_at dksX10_climb_0 12 rfl rfl)
theorem dX10_climb_13 : decode cX10_climb 13 = .ok (.iload_n 1, 1) := dk_27 (dk_at dksX10_climb_0 13 rfl rfl)
theorem dX10_climb_14 : decode cX10_climb 14 = .ok (.if_icmp .ge 18, 3) := dk_162 0 18 (dk_at dksX10_climb_0 14 rfl rfl)
theorem dX10_climb_17 : decode cX10_climb 17 = .ok (.aload_n 2, 1) := dk_44 (dk_at dksX10_climb_0 17 rfl rfl)
theorem dX10_climb_18 : decode cX10_climb 18 = .ok (.aload_n 0, 1) := dk_42 (dk_at dksX10_climb_0 18 rfl rfl)
theorem dX10_climb_19 : decode cX10_climb 19 = .ok (.getfield 88, 3) := dk_180 0 88 (dk_at dksX10_climb_0 19 rfl rfl)
theorem dX10_climb_22 : decode cX10_climb 22 = .ok (.iload_n 3, 1) := dk_29 (dk_at dksX10_climb_0 22 rfl rfl)
theorem dX10_climb_23 : decode cX10_climb 23 = .ok (.iaload, 1) := dk_46 (dk_at dksX10_climb_0 23 rfl rfl)
theorem dX10_climb_24 : decode cX10_climb 24 = .ok (.iload_n 3, 1) := dk_29 (dk_at dksX10_climb_1 0 rfl rfl)
theorem dX10_climb_25 : decode cX10_climb 25 = .ok (.iastore, 1) := dk_79 (dk_at dksX10_climb_1 1 rfl rfl)
theorem dX10_climb_26 : decode cX10_climb 26 = .ok (.iinc 3 1, 3) := dk_132 3 1 (dk_at dksX10_climb_1 2 rfl rfl)
theorem dX10_climb_29 : decode cX10_climb 29 = .ok (.goto (-17), 3) := dk_167 255 239 (dk_at dksX10_climb_1 5 rfl rfl)
theorem dX10_climb_32 : decode cX10_climb 32 = .ok (.iconst 0, 1) := dk_3 (dk_at dksX10_climb_1 8 rfl rfl)
theorem dX10_climb_33 : decode cX10_climb 33 = .ok (.istore_n 3, 1) := dk_62 (dk_at dksX10_climb_1 9 rfl rfl)
theorem dX10_climb_34 : decode cX10_climb 34 = .ok (.iload_n 3, 1) := dk_29 (dk_at dksX10_climb_1 10 rfl rfl)
theorem dX10_climb_35 : decode cX10_climb 35 = .ok (.aload_n 0, 1) := dk_42 (dk_at dksX10_climb_1 11 rfl rfl)
theorem dX10_climb_36 : decode cX10_climb 36 = .ok (.getfield 58, 3) := dk_180 0 58 (dk_at dksX10_climb_1 12 rfl rfl)
theorem dX10_climb_39 : decode cX10_climb 39 = .ok (.if_icmp .ge 87, 3) := dk_162 0 87 (dk_at dksX10_climb_1 15 rfl rfl)
theorem dX10_climb_42 : decode cX10_climb 42 = .ok (.aload_n 0, 1) := dk_42 (dk_at dksX10_climb_1 18 rfl rfl)
theorem dX10_climb_43 : decode cX10_climb 43 = .ok (.getfield 17, 3) := dk_180 0 17 (dk_at dksX10_climb_1 19 rfl rfl)
theorem dX10_climb_46 : decode cX10_climb 46 = .ok (.iload_n 3, 1) := dk_29 (dk_at dksX10_climb_1 22 rfl rfl)
theorem dX10_climb_47 : decode cX10_climb 47 = .ok (.aaload, 1) := dk_50 (dk_at dksX10_climb_1 23 rfl rfl)
theorem dX10_climb_48 : decode cX10_climb 48 = .ok (.iconst 1, 1) := dk_4 (dk_at dksX10_climb_2 0 rfl rfl)
theorem dX10_climb_49 : decode cX10_climb 49 = .ok (.iaload, 1) := dk_46 (dk_at dksX10_climb_2 1 rfl rfl)
theorem dX10_climb_50 : decode cX10_climb 50 = .ok (.istore 4, 2) := dk_54 4 (dk_at dksX10_climb_2 2 rfl rfl)
theorem dX10_climb_52 : decode cX10_climb 52 = .ok (.aload_n 0, 1) := dk_42 (dk_at dksX10_climb_2 4 rfl rfl)
theorem dX10_climb_53 : decode cX10_climb 53 = .ok (.getfield 17, 3) := dk_180 0 17 (dk_at dksX10_climb_2 5 rfl rfl)
theorem dX10_climb_56 : decode cX10_climb 56 = .ok (.iload_n 3, 1) := dk_29 (dk_at dksX10_climb_2 8 rfl rfl)
theorem dX10_climb_57 : decode cX10_climb 57 = .ok (.aaload, 1) := dk_50 (dk_at dksX10_climb_2 9 rfl rfl)
theorem dX10_climb_58 : decode cX10_climb 58 = .ok (.iconst 2, 1) := dk_5 (dk_at dksX10_climb_2 10 rfl rfl)
theorem dX10_climb_59 : decode cX10_climb 59 = .ok (.iaload, 1) := dk_46 (dk_at dksX10_climb_2 11 rfl rfl)
theorem dX10_climb_60 : decode cX10_climb 60 = .ok (.istore 5, 2) := dk_54 5 (dk_at dksX10_climb_2 12 rfl rfl)
theorem dX10_climb_62 : decode cX10_climb 62 = .ok (.aload_n 0, 1) := dk_42 (dk_at dksX10_climb_2 14 rfl rfl)
theorem dX10_climb_63 : decode cX10_climb 63 = .ok (.getfield 35, 3) := dk_180 0 35 (dk_at dksX10_climb_2 15 rfl rfl)
theorem dX10_climb_66 : decode cX10_climb 66 = .ok (.aload_n 0, 1) := dk_42 (dk_at dksX10_climb_2 18 rfl rfl)
theorem dX10_climb_67 : decode cX10_climb 67 = .ok (.getfield 17, 3) := dk_180 0 17 (dk_at dksX10_climb_2 19 rfl rfl)
theorem dX10_climb_70 : decode cX10_climb 70 = .ok (.iload_n 3, 1) := dk_29 (dk_at dksX10_climb_2 22 rfl rfl)
theorem dX10_climb_71 : decode cX10_climb 71 = .ok (.aaload, 1) := dk_50 (dk_at dksX10_climb_2 23 rfl rfl)
theorem dX10_climb_72 : decode cX10_climb 72 = .ok (.iconst 0, 1) := dk_3 (dk_at dksX10_climb_3 0 rfl rfl)
theorem dX10_climb_73 : decode cX10_climb 73 = .ok (.iaload, 1) := dk_46 (dk_at dksX10_climb_3 1 rfl rfl)
theorem dX10_climb_74 : decode cX10_climb 74 = .ok (.aload_n 2, 1) := dk_44 (dk_at dksX10_climb_3 2 rfl rfl)
theorem dX10_climb_75 : decode cX10_climb 75 = .ok (.iload 4, 2) := dk_21 4 (dk_at dksX10_climb_3 3 rfl rfl)
theorem dX10_climb_77 : decode cX10_climb 77 = .ok (.iaload, 1) := dk_46 (dk_at dksX10_climb_3 5 rfl rfl)
theorem dX10_climb_78 : decode cX10_climb 78 = .ok (.aload_n 2, 1) := dk_44 (dk_at dksX10_climb_3 6 rfl rfl)
theorem dX10_climb_79 : decode cX10_climb 79 = .ok (.iload 5, 2) := dk_21 5 (dk_at dksX10_climb_3 7 rfl rfl)
theorem dX10_climb_81 : decode cX10_climb 81 = .ok (.iaload, 1) := dk_46 (dk_at dksX10_climb_3 9 rfl rfl)
theorem dX10_climb_82 : decode cX10_climb 82 = .ok (.if_icmp .ge 7, 3) := dk_162 0 7 (dk_at dksX10_climb_3 10 rfl rfl)
theorem dX10_climb_85 : decode cX10_climb 85 = .ok (.iconst 1, 1) := dk_4 (dk_at dksX10_climb_3 13 rfl rfl)
theorem dX10_climb_86 : decode cX10_climb 86 = .ok (.goto 4, 3) := dk_167 0 4 (dk_at dksX10_climb_3 14 rfl rfl)
theorem dX10_climb_89 : decode cX10_climb 89 = .ok (.iconst 0, 1) := dk_3 (dk_at dksX10_climb_3 17 rfl rfl)
theorem dX10_climb_90 : decode cX10_climb 90 = .ok (.bastore, 1) := dk_84 (dk_at dksX10_climb_3 18 rfl rfl)
theorem dX10_climb_91 : decode cX10_climb 91 = .ok (.aload_n 0, 1) := dk_42 (dk_at dksX10_climb_3 19 rfl rfl)
theorem dX10_climb_92 : decode cX10_climb 92 = .ok (.getfield 64, 3) := dk_180 0 64 (dk_at dksX10_climb_3 20 rfl rfl)
theorem dX10_climb_95 : decode cX10_climb 95 = .ok (.iload 4, 2) := dk_21 4 (dk_at dksX10_climb_4 0 rfl rfl)
theorem dX10_climb_97 : decode cX10_climb 97 = .ok (.aaload, 1) := dk_50 (dk_at dksX10_climb_4 2 rfl rfl)
theorem dX10_climb_98 : decode cX10_climb 98 = .ok (.iload 5, 2) := dk_21 5 (dk_at dksX10_climb_4 3 rfl rfl)
theorem dX10_climb_100 : decode cX10_climb 100 = .ok (.dup2, 1) := dk_92 (dk_at dksX10_climb_4 5 rfl rfl)
theorem dX10_climb_101 : decode cX10_climb 101 = .ok (.baload, 1) := dk_51 (dk_at dksX10_climb_4 6 rfl rfl)
theorem dX10_climb_102 : decode cX10_climb 102 = .ok (.aload_n 2, 1) := dk_44 (dk_at dksX10_climb_4 7 rfl rfl)
theorem dX10_climb_103 : decode cX10_climb 103 = .ok (.iload 4, 2) := dk_21 4 (dk_at dksX10_climb_4 8 rfl rfl)
theorem dX10_climb_105 : decode cX10_climb 105 = .ok (.iaload, 1) := dk_46 (dk_at dksX10_climb_4 10 rfl rfl)
theorem dX10_climb_106 : decode cX10_climb 106 = .ok (.aload_n 2, 1) := dk_44 (dk_at dksX10_climb_4 11 rfl rfl)
theorem dX10_climb_107 : decode cX10_climb 107 = .ok (.iload 5, 2) := dk_21 5 (dk_at dksX10_climb_4 12 rfl rfl)
theorem dX10_climb_109 : decode cX10_climb 109 = .ok (.iaload, 1) := dk_46 (dk_at dksX10_climb_4 14 rfl rfl)
theorem dX10_climb_110 : decode cX10_climb 110 = .ok (.if_icmp .le 7, 3) := dk_164 0 7 (dk_at dksX10_climb_4 15 rfl rfl)
theorem dX10_climb_113 : decode cX10_climb 113 = .ok (.iconst 1, 1) := dk_4 (dk_at dksX10_climb_4 18 rfl rfl)
theorem dX10_climb_114 : decode cX10_climb 114 = .ok (.goto 4, 3) := dk_167 0 4 (dk_at dksX10_climb_4 19 rfl rfl)
theorem dX10_climb_117 : decode cX10_climb 117 = .ok (.iconst 0, 1) := dk_3 (dk_at dksX10_climb_4 22 rfl rfl)
theorem dX10_climb_118 : decode cX10_climb 118 = .ok (.ior, 1) := dk_128 (dk_at dksX10_climb_4 23 rfl rfl)
theorem dX10_climb_119 : decode cX10_climb 119 = .ok (.bastore, 1) := dk_84 (dk_at dksX10_climb_5 0 rfl rfl)
theorem dX10_climb_120 : decode cX10_climb 120 = .ok (.iinc 3 1, 3) := dk_132 3 1 (dk_at dksX10_climb_5 1 rfl rfl)
theorem dX10_climb_123 : decode cX10_climb 123 = .ok (.goto (-89), 3) := dk_167 255 167 (dk_at dksX10_climb_5 4 rfl rfl)
theorem dX10_climb_126 : decode cX10_climb 126 = .ok (.iconst 0, 1) := dk_3 (dk_at dksX10_climb_5 7 rfl rfl)
theorem dX10_climb_127 : decode cX10_climb 127 = .ok (.istore_n 3, 1) := dk_62 (dk_at dksX10_climb_5 8 rfl rfl)
theorem dX10_climb_128 : decode cX10_climb 128 = .ok (.iload_n 3, 1) := dk_29 (dk_at dksX10_climb_5 9 rfl rfl)
theorem dX10_climb_129 : decode cX10_climb 129 = .ok (.iload_n 1, 1) := dk_27 (dk_at dksX10_climb_5 10 rfl rfl)
theorem dX10_climb_130 : decode cX10_climb 130 = .ok (.if_icmp .ge 81, 3) := dk_162 0 81 (dk_at dksX10_climb_5 11 rfl rfl)
theorem dX10_climb_133 : decode cX10_climb 133 = .ok (.iconst 0, 1) := dk_3 (dk_at dksX10_climb_5 14 rfl rfl)
theorem dX10_climb_134 : decode cX10_climb 134 = .ok (.istore 4, 2) := dk_54 4 (dk_at dksX10_climb_5 15 rfl rfl)
theorem dX10_climb_136 : decode cX10_climb 136 = .ok (.iload 4, 2) := dk_21 4 (dk_at dksX10_climb_5 17 rfl rfl)
theorem dX10_climb_138 : decode cX10_climb 138 = .ok (.iload_n 1, 1) := dk_27 (dk_at dksX10_climb_5 19 rfl rfl)
theorem dX10_climb_139 : decode cX10_climb 139 = .ok (.if_icmp .ge 66, 3) := dk_162 0 66 (dk_at dksX10_climb_5 20 rfl rfl)
theorem dX10_climb_142 : decode cX10_climb 142 = .ok (.iconst 0, 1) := dk_3 (dk_at dksX10_climb_5 23 rfl rfl)
theorem dX10_climb_143 : decode cX10_climb 143 = .ok (.istore 5, 2) := dk_54 5 (dk_at dksX10_climb_6 0 rfl rfl)
theorem dX10_climb_145 : decode cX10_climb 145 = .ok (.iload 5, 2) := dk_21 5 (dk_at dksX10_climb_6 2 rfl rfl)
theorem dX10_climb_147 : decode cX10_climb 147 = .ok (.iload_n 1, 1) := dk_27 (dk_at dksX10_climb_6 4 rfl rfl)
theorem dX10_climb_148 : decode cX10_climb 148 = .ok (.if_icmp .ge 51, 3) := dk_162 0 51 (dk_at dksX10_climb_6 5 rfl rfl)
theorem dX10_climb_151 : decode cX10_climb 151 = .ok (.aload_n 0, 1) := dk_42 (dk_at dksX10_climb_6 8 rfl rfl)
theorem dX10_climb_152 : decode cX10_climb 152 = .ok (.getfield 64, 3) := dk_180 0 64 (dk_at dksX10_climb_6 9 rfl rfl)
theorem dX10_climb_155 : decode cX10_climb 155 = .ok (.iload 4, 2) := dk_21 4 (dk_at dksX10_climb_6 12 rfl rfl)
theorem dX10_climb_157 : decode cX10_climb 157 = .ok (.aaload, 1) := dk_50 (dk_at dksX10_climb_6 14 rfl rfl)
theorem dX10_climb_158 : decode cX10_climb 158 = .ok (.iload 5, 2) := dk_21 5 (dk_at dksX10_climb_6 15 rfl rfl)
theorem dX10_climb_160 : decode cX10_climb 160 = .ok (.dup2, 1) := dk_92 (dk_at dksX10_climb_6 17 rfl rfl)
theorem dX10_climb_161 : decode cX10_climb 161 = .ok (.baload, 1) := dk_51 (dk_at dksX10_climb_6 18 rfl rfl)
theorem dX10_climb_162 : decode cX10_climb 162 = .ok (.aload_n 0, 1) := dk_42 (dk_at dksX10_climb_6 19 rfl rfl)
theorem dX10_climb_163 : decode cX10_climb 163 = .ok (.getfield 64, 3) := dk_180 0 64 (dk_at dksX10_climb_6 20 rfl rfl)
theorem dX10_climb_166 : decode cX10_climb 166 = .ok (.iload 4, 2) := dk_21 4 (dk_at dksX10_climb_7 0 rfl rfl)
theorem dX10_climb_168 : decode cX10_climb 168 = .ok (.aaload, 1) := dk_50 (dk_at dksX10_climb_7 2 rfl rfl)
theorem dX10_climb_169 : decode cX10_climb 169 = .ok (.iload_n 3, 1) := dk_29 (dk_at dksX10_climb_7 3 rfl rfl)
theorem dX10_climb_170 : decode cX10_climb 170 = .ok (.baload, 1) := dk_51 (dk_at dksX10_climb_7 4 rfl rfl)
theorem dX10_climb_171 : decode cX10_climb 171 = .ok (.ifCond .eq 19, 3) := dk_153 0 19 (dk_at dksX10_climb_7 5 rfl rfl)
theorem dX10_climb_174 : decode cX10_climb 174 = .ok (.aload_n 0, 1) := dk_42 (dk_at dksX10_climb_7 8 rfl rfl)
theorem dX10_climb_175 : decode cX10_climb 175 = .ok (.getfield 64, 3) := dk_180 0 64 (dk_at dksX10_climb_7 9 rfl rfl)
theorem dX10_climb_178 : decode cX10_climb 178 = .ok (.iload_n 3, 1) := dk_29 (dk_at dksX10_climb_7 12 rfl rfl)
theorem dX10_climb_179 : decode cX10_climb 179 = .ok (.aaload, 1) := dk_50 (dk_at dksX10_climb_7 13 rfl rfl)
theorem dX10_climb_180 : decode cX10_climb 180 = .ok (.iload 5, 2) := dk_21 5 (dk_at dksX10_climb_7 14 rfl rfl)
theorem dX10_climb_182 : decode cX10_climb 182 = .ok (.baload, 1) := dk_51 (dk_at dksX10_climb_7 16 rfl rfl)
theorem dX10_climb_183 : decode cX10_climb 183 = .ok (.ifCond .eq 7, 3) := dk_153 0 7 (dk_at dksX10_climb_7 17 rfl rfl)
theorem dX10_climb_186 : decode cX10_climb 186 = .ok (.iconst 1, 1) := dk_4 (dk_at dksX10_climb_7 20 rfl rfl)
theorem dX10_climb_187 : decode cX10_climb 187 = .ok (.goto 4, 3) := dk_167 0 4 (dk_at dksX10_climb_7 21 rfl rfl)
theorem dX10_climb_190 : decode cX10_climb 190 = .ok (.iconst 0, 1) := dk_3 (dk_at dksX10_climb_8 0 rfl rfl)
theorem dX10_climb_191 : decode cX10_climb 191 = .ok (.ior, 1) := dk_128 (dk_at dksX10_climb_8 1 rfl rfl)
theorem dX10_climb_192 : decode cX10_climb 192 = .ok (.bastore, 1) := dk_84 (dk_at dksX10_climb_8 2 rfl rfl)
theorem dX10_climb_193 : decode cX10_climb 193 = .ok (.iinc 5 1, 3) := dk_132 5 1 (dk_at dksX10_climb_8 3 rfl rfl)
theorem dX10_climb_196 : decode cX10_climb 196 = .ok (.goto (-51), 3) := dk_167 255 205 (dk_at dksX10_climb_8 6 rfl rfl)
theorem dX10_climb_199 : decode cX10_climb 199 = .ok (.iinc 4 1, 3) := dk_132 4 1 (dk_at dksX10_climb_8 9 rfl rfl)
theorem dX10_climb_202 : decode cX10_climb 202 = .ok (.goto (-66), 3) := dk_167 255 190 (dk_at dksX10_climb_8 12 rfl rfl)
theorem dX10_climb_205 : decode cX10_climb 205 = .ok (.iinc 3 1, 3) := dk_132 3 1 (dk_at dksX10_climb_8 15 rfl rfl)
theorem dX10_climb_208 : decode cX10_climb 208 = .ok (.goto (-80), 3) := dk_167 255 176 (dk_at dksX10_climb_8 18 rfl rfl)
theorem dX10_climb_211 : decode cX10_climb 211 = .ok (.return_, 1) := dk_177 (dk_at dksX10_climb_8 21 rfl rfl)
abbrev cX10_date : ByteArray := prog_19_method_8_code
def yX10_date : MethodName := ⟨RX10, "date", "()V"⟩
def dkwX10_date_12 : List UInt8 := [132, 6, 1, 167, 255, 222, 177]
abbrev dktX10_date_12 : List UInt8 := dkwX10_date_12 ++ []
def dkwX10_date_11 : List UInt8 := [180, 0, 35, 44, 21, 6, 46, 21, 4, 21, 6, 122, 4, 126, 4, 160, 0, 7, 4, 167, 0, 4, 3, 84]
abbrev dktX10_date_11 : List UInt8 := dkwX10_date_11 ++ dktX10_date_12
def dkwX10_date_10 : List UInt8 := [54, 4, 21, 7, 54, 5, 132, 6, 1, 167, 255, 144, 3, 54, 6, 21, 6, 27, 162, 0, 34, 42]
abbrev dktX10_date_10 : List UInt8 := dkwX10_date_10 ++ dktX10_date_11
def dkwX10_date_9 : List UInt8 := [3, 126, 54, 8, 132, 9, 1, 167, 255, 187, 21, 8, 153, 0, 18, 21, 7, 21, 5, 162, 0, 11, 21, 6]
abbrev dktX10_date_9 : List UInt8 := dkwX10_date_9 ++ dktX10_date_10
def dkwX10_date_8 : List UInt8 := [96, 54, 7, 167, 0, 25, 21, 8, 45, 21, 9, 46, 21, 6, 2, 130, 126, 154, 0, 7, 4, 167, 0, 4]
abbrev dktX10_date_8 : List UInt8 := dkwX10_date_8 ++ dktX10_date_9
def dkwX10_date_7 : List UInt8 := [160, 0, 30, 21, 7, 42, 180, 0, 3, 180, 0, 21, 44, 21, 9, 46, 182, 0, 51, 192, 0, 15, 6, 46]
abbrev dktX10_date_7 : List UInt8 := dkwX10_date_7 ++ dktX10_date_8
def dkwX10_date_6 : List UInt8 := [3, 54, 7, 4, 54, 8, 3, 54, 9, 21, 9, 27, 162, 0, 69, 21, 6, 21, 9, 122, 4, 126, 4]
abbrev dktX10_date_6 : List UInt8 := dkwX10_date_6 ++ dktX10_date_7
def dkwX10_date_5 : List UInt8 := [132, 4, 1, 167, 255, 206, 2, 54, 4, 18, 78, 54, 5, 3, 54, 6, 21, 6, 4, 27, 120, 162, 0, 110]
abbrev dktX10_date_5 : List UInt8 := dkwX10_date_5 ++ dktX10_date_6
def dkwX10_date_4 : List UInt8 := [182, 0, 100, 153, 0, 14, 45, 21, 4, 92, 46, 4, 21, 5, 120, 128, 79, 132, 5, 1, 167, 255, 221]
abbrev dktX10_date_4 : List UInt8 := dkwX10_date_4 ++ dktX10_date_5
def dkwX10_date_3 : List UInt8 := [21, 4, 27, 162, 0, 50, 3, 54, 5, 21, 5, 27, 162, 0, 35, 42, 44, 21, 4, 46, 44, 21, 5, 46]
abbrev dktX10_date_3 : List UInt8 := dkwX10_date_3 ++ dktX10_date_4
def dkwX10_date_2 : List UInt8 := [153, 0, 10, 44, 27, 132, 1, 1, 29, 79, 132, 3, 1, 167, 255, 204, 27, 188, 10, 78, 3, 54, 4]
abbrev dktX10_date_2 : List UInt8 := dkwX10_date_2 ++ dktX10_date_3
def dkwX10_date_1 : List UInt8 := [180, 0, 31, 29, 51, 153, 0, 29, 42, 180, 0, 3, 180, 0, 21, 29, 182, 0, 51, 192, 0, 15, 3, 46]
abbrev dktX10_date_1 : List UInt8 := dkwX10_date_1 ++ dktX10_date_2
def dkwX10_date_0 : List UInt8 := [3, 60, 16, 12, 188, 10, 77, 3, 62, 29, 42, 180, 0, 3, 180, 0, 21, 182, 0, 25, 162, 0, 44, 42]
abbrev dktX10_date_0 : List UInt8 := dkwX10_date_0 ++ dktX10_date_1
theorem dksX10_date_0 : cX10_date.data.toList.drop 0 = dktX10_date_0 := by decide +kernel
theorem dksX10_date_1 : cX10_date.data.toList.drop 24 = dktX10_date_1 := dk_seg dksX10_date_0 24 rfl rfl
theorem dksX10_date_2 : cX10_date.data.toList.drop 48 = dktX10_date_2 := dk_seg dksX10_date_1 24 rfl rfl
theorem dksX10_date_3 : cX10_date.data.toList.drop 71 = dktX10_date_3 := dk_seg dksX10_date_2 23 rfl rfl
theorem dksX10_date_4 : cX10_date.data.toList.drop 95 = dktX10_date_4 := dk_seg dksX10_date_3 24 rfl rfl
theorem dksX10_date_5 : cX10_date.data.toList.drop 118 = dktX10_date_5 := dk_seg dksX10_date_4 23 rfl rfl
theorem dksX10_date_6 : cX10_date.data.toList.drop 142 = dktX10_date_6 := dk_seg dksX10_date_5 24 rfl rfl
theorem dksX10_date_7 : cX10_date.data.toList.drop 165 = dktX10_date_7 := dk_seg dksX10_date_6 23 rfl rfl
theorem dksX10_date_8 : cX10_date.data.toList.drop 189 = dktX10_date_8 := dk_seg dksX10_date_7 24 rfl rfl
theorem dksX10_date_9 : cX10_date.data.toList.drop 213 = dktX10_date_9 := dk_seg dksX10_date_8 24 rfl rfl
theorem dksX10_date_10 : cX10_date.data.toList.drop 237 = dktX10_date_10 := dk_seg dksX10_date_9 24 rfl rfl
theorem dksX10_date_11 : cX10_date.data.toList.drop 259 = dktX10_date_11 := dk_seg dksX10_date_10 22 rfl rfl
theorem dksX10_date_12 : cX10_date.data.toList.drop 283 = dktX10_date_12 := dk_seg dksX10_date_11 24 rfl rfl
theorem dX10_date_0 : decode cX10_date 0 = .ok (.iconst 0, 1) := dk_3 (dk_at dksX10_date_0 0 rfl rfl)
theorem dX10_date_1 : decode cX10_date 1 = .ok (.istore_n 1, 1) := dk_60 (dk_at dksX10_date_0 1 rfl rfl)
theorem dX10_date_2 : decode cX10_date 2 = .ok (.bipush 12, 2) := dk_16 12 (dk_at dksX10_date_0 2 rfl rfl)
theorem dX10_date_4 : decode cX10_date 4 = .ok (.newarray .int, 2) := dk_188_10 (dk_at dksX10_date_0 4 rfl rfl)
theorem dX10_date_6 : decode cX10_date 6 = .ok (.astore_n 2, 1) := dk_77 (dk_at dksX10_date_0 6 rfl rfl)
theorem dX10_date_7 : decode cX10_date 7 = .ok (.iconst 0, 1) := dk_3 (dk_at dksX10_date_0 7 rfl rfl)
theorem dX10_date_8 : decode cX10_date 8 = .ok (.istore_n 3, 1) := dk_62 (dk_at dksX10_date_0 8 rfl rfl)
theorem dX10_date_9 : decode cX10_date 9 = .ok (.iload_n 3, 1) := dk_29 (dk_at dksX10_date_0 9 rfl rfl)
theorem dX10_date_10 : decode cX10_date 10 = .ok (.aload_n 0, 1) := dk_42 (dk_at dksX10_date_0 10 rfl rfl)
theorem dX10_date_11 : decode cX10_date 11 = .ok (.getfield 3, 3) := dk_180 0 3 (dk_at dksX10_date_0 11 rfl rfl)
theorem dX10_date_14 : decode cX10_date 14 = .ok (.getfield 21, 3) := dk_180 0 21 (dk_at dksX10_date_0 14 rfl rfl)
theorem dX10_date_17 : decode cX10_date 17 = .ok (.invokevirtual 25, 3) := dk_182 0 25 (dk_at dksX10_date_0 17 rfl rfl)
theorem dX10_date_20 : decode cX10_date 20 = .ok (.if_icmp .ge 44, 3) := dk_162 0 44 (dk_at dksX10_date_0 20 rfl rfl)
theorem dX10_date_23 : decode cX10_date 23 = .ok (.aload_n 0, 1) := dk_42 (dk_at dksX10_date_0 23 rfl rfl)
theorem dX10_date_24 : decode cX10_date 24 = .ok (.getfield 31, 3) := dk_180 0 31 (dk_at dksX10_date_1 0 rfl rfl)
theorem dX10_date_27 : decode cX10_date 27 = .ok (.iload_n 3, 1) := dk_29 (dk_at dksX10_date_1 3 rfl rfl)
theorem dX10_date_28 : decode cX10_date 28 = .ok (.baload, 1) := dk_51 (dk_at dksX10_date_1 4 rfl rfl)
theorem dX10_date_29 : decode cX10_date 29 = .ok (.ifCond .eq 29, 3) := dk_153 0 29 (dk_at dksX10_date_1 5 rfl rfl)
theorem dX10_date_32 : decode cX10_date 32 = .ok (.aload_n 0, 1) := dk_42 (dk_at dksX10_date_1 8 rfl rfl)
theorem dX10_date_33 : decode cX10_date 33 = .ok (.getfield 3, 3) := dk_180 0 3 (dk_at dksX10_date_1 9 rfl rfl)
theorem dX10_date_36 : decode cX10_date 36 = .ok (.getfield 21, 3) := dk_180 0 21 (dk_at dksX10_date_1 12 rfl rfl)
theorem dX10_date_39 : decode cX10_date 39 = .ok (.iload_n 3, 1) := dk_29 (dk_at dksX10_date_1 15 rfl rfl)
theorem dX10_date_40 : decode cX10_date 40 = .ok (.invokevirtual 51, 3) := dk_182 0 51 (dk_at dksX10_date_1 16 rfl rfl)
theorem dX10_date_43 : decode cX10_date 43 = .ok (.checkcast 15, 3) := dk_192 0 15 (dk_at dksX10_date_1 19 rfl rfl)
theorem dX10_date_46 : decode cX10_date 46 = .ok (.iconst 0, 1) := dk_3 (dk_at dksX10_date_1 22 rfl rfl)
theorem dX10_date_47 : decode cX10_date 47 = .ok (.iaload, 1) := dk_46 (dk_at dksX10_date_1 23 rfl rfl)
theorem dX10_date_48 : decode cX10_date 48 = .ok (.ifCond .eq 10, 3) := dk_153 0 10 (dk_at dksX10_date_2 0 rfl rfl)
theorem dX10_date_51 : decode cX10_date 51 = .ok (.aload_n 2, 1) := dk_44 (dk_at dksX10_date_2 3 rfl rfl)
theorem dX10_date_52 : decode cX10_date 52 = .ok (.iload_n 1, 1) := dk_27 (dk_at dksX10_date_2 4 rfl rfl)
theorem dX10_date_53 : decode cX10_date 53 = .ok (.iinc 1 1, 3) := dk_132 1 1 (dk_at dksX10_date_2 5 rfl rfl)
theorem dX10_date_56 : decode cX10_date 56 = .ok (.iload_n 3, 1) := dk_29 (dk_at dksX10_date_2 8 rfl rfl)
theorem dX10_date_57 : decode cX10_date 57 = .ok (.iastore, 1) := dk_79 (dk_at dksX10_date_2 9 rfl rfl)
theorem dX10_date_58 : decode cX10_date 58 = .ok (.iinc 3 1, 3) := dk_132 3 1 (dk_at dksX10_date_2 10 rfl rfl)
theorem dX10_date_61 : decode cX10_date 61 = .ok (.goto (-52), 3) := dk_167 255 204 (dk_at dksX10_date_2 13 rfl rfl)
theorem dX10_date_64 : decode cX10_date 64 = .ok (.iload_n 1, 1) := dk_27 (dk_at dksX10_date_2 16 rfl rfl)
theorem dX10_date_65 : decode cX10_date 65 = .ok (.newarray .int, 2) := dk_188_10 (dk_at dksX10_date_2 17 rfl rfl)
theorem dX10_date_67 : decode cX10_date 67 = .ok (.astore_n 3, 1) := dk_78 (dk_at dksX10_date_2 19 rfl rfl)
theorem dX10_date_68 : decode cX10_date 68 = .ok (.iconst 0, 1) := dk_3 (dk_at dksX10_date_2 20 rfl rfl)
theorem dX10_date_69 : decode cX10_date 69 = .ok (.istore 4, 2) := dk_54 4 (dk_at dksX10_date_2 21 rfl rfl)
theorem dX10_date_71 : decode cX10_date 71 = .ok (.iload 4, 2) := dk_21 4 (dk_at dksX10_date_3 0 rfl rfl)
theorem dX10_date_73 : decode cX10_date 73 = .ok (.iload_n 1, 1) := dk_27 (dk_at dksX10_date_3 2 rfl rfl)
theorem dX10_date_74 : decode cX10_date 74 = .ok (.if_icmp .ge 50, 3) := dk_162 0 50 (dk_at dksX10_date_3 3 rfl rfl)
theorem dX10_date_77 : decode cX10_date 77 = .ok (.iconst 0, 1) := dk_3 (dk_at dksX10_date_3 6 rfl rfl)
theorem dX10_date_78 : decode cX10_date 78 = .ok (.istore 5, 2) := dk_54 5 (dk_at dksX10_date_3 7 rfl rfl)
theorem dX10_date_80 : decode cX10_date 80 = .ok (.iload 5, 2) := dk_21 5 (dk_at dksX10_date_3 9 rfl rfl)
theorem dX10_date_82 : decode cX10_date 82 = .ok (.iload_n 1, 1) := dk_27 (dk_at dksX10_date_3 11 rfl rfl)
theorem dX10_date_83 : decode cX10_date 83 = .ok (.if_icmp .ge 35, 3) := dk_162 0 35 (dk_at dksX10_date_3 12 rfl rfl)
theorem dX10_date_86 : decode cX10_date 86 = .ok (.aload_n 0, 1) := dk_42 (dk_at dksX10_date_3 15 rfl rfl)
theorem dX10_date_87 : decode cX10_date 87 = .ok (.aload_n 2, 1) := dk_44 (dk_at dksX10_date_3 16 rfl rfl)
theorem dX10_date_88 : decode cX10_date 88 = .ok (.iload 4, 2) := dk_21 4 (dk_at dksX10_date_3 17 rfl rfl)
theorem dX10_date_90 : decode cX10_date 90 = .ok (.iaload, 1) := dk_46 (dk_at dksX10_date_3 19 rfl rfl)
theorem dX10_date_91 : decode cX10_date 91 = .ok (.aload_n 2, 1) := dk_44 (dk_at dksX10_date_3 20 rfl rfl)
theorem dX10_date_92 : decode cX10_date 92 = .ok (.iload 5, 2) := dk_21 5 (dk_at dksX10_date_3 21 rfl rfl)
theorem dX10_date_94 : decode cX10_date 94 = .ok (.iaload, 1) := dk_46 (dk_at dksX10_date_3 23 rfl rfl)
theorem dX10_date_95 : decode cX10_date 95 = .ok (.invokevirtual 100, 3) := dk_182 0 100 (dk_at dksX10_date_4 0 rfl rfl)
theorem dX10_date_98 : decode cX10_date 98 = .ok (.ifCond .eq 14, 3) := dk_153 0 14 (dk_at dksX10_date_4 3 rfl rfl)
theorem dX10_date_101 : decode cX10_date 101 = .ok (.aload_n 3, 1) := dk_45 (dk_at dksX10_date_4 6 rfl rfl)
theorem dX10_date_102 : decode cX10_date 102 = .ok (.iload 4, 2) := dk_21 4 (dk_at dksX10_date_4 7 rfl rfl)
theorem dX10_date_104 : decode cX10_date 104 = .ok (.dup2, 1) := dk_92 (dk_at dksX10_date_4 9 rfl rfl)
theorem dX10_date_105 : decode cX10_date 105 = .ok (.iaload, 1) := dk_46 (dk_at dksX10_date_4 10 rfl rfl)
theorem dX10_date_106 : decode cX10_date 106 = .ok (.iconst 1, 1) := dk_4 (dk_at dksX10_date_4 11 rfl rfl)
theorem dX10_date_107 : decode cX10_date 107 = .ok (.iload 5, 2) := dk_21 5 (dk_at dksX10_date_4 12 rfl rfl)
theorem dX10_date_109 : decode cX10_date 109 = .ok (.ishl, 1) := dk_120 (dk_at dksX10_date_4 14 rfl rfl)
theorem dX10_date_110 : decode cX10_date 110 = .ok (.ior, 1) := dk_128 (dk_at dksX10_date_4 15 rfl rfl)
theorem dX10_date_111 : decode cX10_date 111 = .ok (.iastore, 1) := dk_79 (dk_at dksX10_date_4 16 rfl rfl)
theorem dX10_date_112 : decode cX10_date 112 = .ok (.iinc 5 1, 3) := dk_132 5 1 (dk_at dksX10_date_4 17 rfl rfl)
theorem dX10_date_115 : decode cX10_date 115 = .ok (.goto (-35), 3) := dk_167 255 221 (dk_at dksX10_date_4 20 rfl rfl)
theorem dX10_date_118 : decode cX10_date 118 = .ok (.iinc 4 1, 3) := dk_132 4 1 (dk_at dksX10_date_5 0 rfl rfl)
theorem dX10_date_121 : decode cX10_date 121 = .ok (.goto (-50), 3) := dk_167 255 206 (dk_at dksX10_date_5 3 rfl rfl)
theorem dX10_date_124 : decode cX10_date 124 = .ok (.iconst (-1), 1) := dk_2 (dk_at dksX10_date_5 6 rfl rfl)
theorem dX10_date_125 : decode cX10_date 125 = .ok (.istore 4, 2) := dk_54 4 (dk_at dksX10_date_5 7 rfl rfl)
theorem dX10_date_127 : decode cX10_date 127 = .ok (.ldc 78, 2) := dk_18 78 (dk_at dksX10_date_5 9 rfl rfl)
theorem dX10_date_129 : decode cX10_date 129 = .ok (.istore 5, 2) := dk_54 5 (dk_at dksX10_date_5 11 rfl rfl)
theorem dX10_date_131 : decode cX10_date 131 = .ok (.iconst 0, 1) := dk_3 (dk_at dksX10_date_5 13 rfl rfl)
theorem dX10_date_132 : decode cX10_date 132 = .ok (.istore 6, 2) := dk_54 6 (dk_at dksX10_date_5 14 rfl rfl)
theorem dX10_date_134 : decode cX10_date 134 = .ok (.iload 6, 2) := dk_21 6 (dk_at dksX10_date_5 16 rfl rfl)
theorem dX10_date_136 : decode cX10_date 136 = .ok (.iconst 1, 1) := dk_4 (dk_at dksX10_date_5 18 rfl rfl)
theorem dX10_date_137 : decode cX10_date 137 = .ok (.iload_n 1, 1) := dk_27 (dk_at dksX10_date_5 19 rfl rfl)
theorem dX10_date_138 : decode cX10_date 138 = .ok (.ishl, 1) := dk_120 (dk_at dksX10_date_5 20 rfl rfl)
theorem dX10_date_139 : decode cX10_date 139 = .ok (.if_icmp .ge 110, 3) := dk_162 0 110 (dk_at dksX10_date_5 21 rfl rfl)
theorem dX10_date_142 : decode cX10_date 142 = .ok (.iconst 0, 1) := dk_3 (dk_at dksX10_date_6 0 rfl rfl)
theorem dX10_date_143 : decode cX10_date 143 = .ok (.istore 7, 2) := dk_54 7 (dk_at dksX10_date_6 1 rfl rfl)
theorem dX10_date_145 : decode cX10_date 145 = .ok (.iconst 1, 1) := dk_4 (dk_at dksX10_date_6 3 rfl rfl)
theorem dX10_date_146 : decode cX10_date 146 = .ok (.istore 8, 2) := dk_54 8 (dk_at dksX10_date_6 4 rfl rfl)
theorem dX10_date_148 : decode cX10_date 148 = .ok (.iconst 0, 1) := dk_3 (dk_at dksX10_date_6 6 rfl rfl)
theorem dX10_date_149 : decode cX10_date 149 = .ok (.istore 9, 2) := dk_54 9 (dk_at dksX10_date_6 7 rfl rfl)
theorem dX10_date_151 : decode cX10_date 151 = .ok (.iload 9, 2) := dk_21 9 (dk_at dksX10_date_6 9 rfl rfl)
theorem dX10_date_153 : decode cX10_date 153 = .ok (.iload_n 1, 1) := dk_27 (dk_at dksX10_date_6 11 rfl rfl)
theorem dX10_date_154 : decode cX10_date 154 = .ok (.if_icmp .ge 69, 3) := dk_162 0 69 (dk_at dksX10_date_6 12 rfl rfl)
theorem dX10_date_157 : decode cX10_date 157 = .ok (.iload 6, 2) := dk_21 6 (dk_at dksX10_date_6 15 rfl rfl)
theorem dX10_date_159 : decode cX10_date 159 = .ok (.iload 9, 2) := dk_21 9 (dk_at dksX10_date_6 17 rfl rfl)
theorem dX10_date_161 : decode cX10_date 161 = .ok (.ishr, 1) := dk_122 (dk_at dksX10_date_6 19 rfl rfl)
theorem dX10_date_162 : decode cX10_date 162 = .ok (.iconst 1, 1) := dk_4 (dk_at dksX10_date_6 20 rfl rfl)
theorem dX10_date_163 : decode cX10_date 163 = .ok (.iand, 1) := dk_126 (dk_at dksX10_date_6 21 rfl rfl)
theorem dX10_date_164 : decode cX10_date 164 = .ok (.iconst 1, 1) := dk_4 (dk_at dksX10_date_6 22 rfl rfl)
theorem dX10_date_165 : decode cX10_date 165 = .ok (.if_icmp .ne 30, 3) := dk_160 0 30 (dk_at dksX10_date_7 0 rfl rfl)
theorem dX10_date_168 : decode cX10_date 168 = .ok (.iload 7, 2) := dk_21 7 (dk_at dksX10_date_7 3 rfl rfl)
theorem dX10_date_170 : decode cX10_date 170 = .ok (.aload_n 0, 1) := dk_42 (dk_at dksX10_date_7 5 rfl rfl)
theorem dX10_date_171 : decode cX10_date 171 = .ok (.getfield 3, 3) := dk_180 0 3 (dk_at dksX10_date_7 6 rfl rfl)
theorem dX10_date_174 : decode cX10_date 174 = .ok (.getfield 21, 3) := dk_180 0 21 (dk_at dksX10_date_7 9 rfl rfl)
theorem dX10_date_177 : decode cX10_date 177 = .ok (.aload_n 2, 1) := dk_44 (dk_at dksX10_date_7 12 rfl rfl)
theorem dX10_date_178 : decode cX10_date 178 = .ok (.iload 9, 2) := dk_21 9 (dk_at dksX10_date_7 13 rfl rfl)
theorem dX10_date_180 : decode cX10_date 180 = .ok (.iaload, 1) := dk_46 (dk_at dksX10_date_7 15 rfl rfl)
theorem dX10_date_181 : decode cX10_date 181 = .ok (.invokevirtual 51, 3) := dk_182 0 51 (dk_at dksX10_date_7 16 rfl rfl)
theorem dX10_date_184 : decode cX10_date 184 = .ok (.checkcast 15, 3) := dk_192 0 15 (dk_at dksX10_date_7 19 rfl rfl)
theorem dX10_date_187 : decode cX10_date 187 = .ok (.iconst 3, 1) := dk_6 (dk_at dksX10_date_7 22 rfl rfl)
theorem dX10_date_188 : decode cX10_date 188 = .ok (.iaload, 1) := dk_46 (dk_at dksX10_date_7 23 rfl rfl)
theorem dX10_date_189 : decode cX10_date 189 = .ok (.iadd, 1) := dk_96 (dk_at dksX10_date_8 0 rfl rfl)
theorem dX10_date_190 : decode cX10_date 190 = .ok (.istore 7, 2) := dk_54 7 (dk_at dksX10_date_8 1 rfl rfl)
theorem dX10_date_192 : decode cX10_date 192 = .ok (.goto 25, 3) := dk_167 0 25 (dk_at dksX10_date_8 3 rfl rfl)
theorem dX10_date_195 : decode cX10_date 195 = .ok (.iload 8, 2) := dk_21 8 (dk_at dksX10_date_8 6 rfl rfl)
theorem dX10_date_197 : decode cX10_date 197 = .ok (.aload_n 3, 1) := dk_45 (dk_at dksX10_date_8 8 rfl rfl)
theorem dX10_date_198 : decode cX10_date 198 = .ok (.iload 9, 2) := dk_21 9 (dk_at dksX10_date_8 9 rfl rfl)
theorem dX10_date_200 : decode cX10_date 200 = .ok (.iaload, 1) := dk_46 (dk_at dksX10_date_8 11 rfl rfl)
theorem dX10_date_201 : decode cX10_date 201 = .ok (.iload 6, 2) := dk_21 6 (dk_at dksX10_date_8 12 rfl rfl)
theorem dX10_date_203 : decode cX10_date 203 = .ok (.iconst (-1), 1) := dk_2 (dk_at dksX10_date_8 14 rfl rfl)
theorem dX10_date_204 : decode cX10_date 204 = .ok (.ixor, 1) := dk_130 (dk_at dksX10_date_8 15 rfl rfl)
theorem dX10_date_205 : decode cX10_date 205 = .ok (.iand, 1) := dk_126 (dk_at dksX10_date_8 16 rfl rfl)
theorem dX10_date_206 : decode cX10_date 206 = .ok (.ifCond .ne 7, 3) := dk_154 0 7 (dk_at dksX10_date_8 17 rfl rfl)
theorem dX10_date_209 : decode cX10_date 209 = .ok (.iconst 1, 1) := dk_4 (dk_at dksX10_date_8 20 rfl rfl)
theorem dX10_date_210 : decode cX10_date 210 = .ok (.goto 4, 3) := dk_167 0 4 (dk_at dksX10_date_8 21 rfl rfl)
theorem dX10_date_213 : decode cX10_date 213 = .ok (.iconst 0, 1) := dk_3 (dk_at dksX10_date_9 0 rfl rfl)
theorem dX10_date_214 : decode cX10_date 214 = .ok (.iand, 1) := dk_126 (dk_at dksX10_date_9 1 rfl rfl)
theorem dX10_date_215 : decode cX10_date 215 = .ok (.istore 8, 2) := dk_54 8 (dk_at dksX10_date_9 2 rfl rfl)
theorem dX10_date_217 : decode cX10_date 217 = .ok (.iinc 9 1, 3) := dk_132 9 1 (dk_at dksX10_date_9 4 rfl rfl)
theorem dX10_date_220 : decode cX10_date 220 = .ok (.goto (-69), 3) := dk_167 255 187 (dk_at dksX10_date_9 7 rfl rfl)
theorem dX10_date_223 : decode cX10_date 223 = .ok (.iload 8, 2) := dk_21 8 (dk_at dksX10_date_9 10 rfl rfl)
theorem dX10_date_225 : decode cX10_date 225 = .ok (.ifCond .eq 18, 3) := dk_153 0 18 (dk_at dksX10_date_9 12 rfl rfl)
theorem dX10_date_228 : decode cX10_date 228 = .ok (.iload 7, 2) := dk_21 7 (dk_at dksX10_date_9 15 rfl rfl)
theorem dX10_date_230 : decode cX10_date 230 = .ok (.iload 5, 2) := dk_21 5 (dk_at dksX10_date_9 17 rfl rfl)
theorem dX10_date_232 : decode cX10_date 232 = .ok (.if_icmp .ge 11, 3) := dk_162 0 11 (dk_at dksX10_date_9 19 rfl rfl)
theorem dX10_date_235 : decode cX10_date 235 = .ok (.iload 6, 2) := dk_21 6 (dk_at dksX10_date_9 22 rfl rfl)
theorem dX10_date_237 : decode cX10_date 237 = .ok (.istore 4, 2) := dk_54 4 (dk_at dksX10_date_10 0 rfl rfl)
theorem dX10_date_239 : decode cX10_date 239 = .ok (.iload 7, 2) := dk_21 7 (dk_at dksX10_date_10 2 rfl rfl)
theorem dX10_date_241 : decode cX10_date 241 = .ok (.istore 5, 2) := dk_54 5 (dk_at dksX10_date_10 4 rfl rfl)
theorem dX10_date_243 : decode cX10_date 243 = .ok (.iinc 6 1, 3) := dk_132 6 1 (dk_at dksX10_date_10 6 rfl rfl)
theorem dX10_date_246 : decode cX10_date 246 = .ok (.goto (-112), 3) := dk_167 255 144 (dk_at dksX10_date_10 9 rfl rfl)
theorem dX10_date_249 : decode cX10_date 249 = .ok (.iconst 0, 1) := dk_3 (dk_at dksX10_date_10 12 rfl rfl)
theorem dX10_date_250 : decode cX10_date 250 = .ok (.istore 6, 2) := dk_54 6 (dk_at dksX10_date_10 13 rfl rfl)
theorem dX10_date_252 : decode cX10_date 252 = .ok (.iload 6, 2) := dk_21 6 (dk_at dksX10_date_10 15 rfl rfl)
theorem dX10_date_254 : decode cX10_date 254 = .ok (.iload_n 1, 1) := dk_27 (dk_at dksX10_date_10 17 rfl rfl)
theorem dX10_date_255 : decode cX10_date 255 = .ok (.if_icmp .ge 34, 3) := dk_162 0 34 (dk_at dksX10_date_10 18 rfl rfl)
theorem dX10_date_258 : decode cX10_date 258 = .ok (.aload_n 0, 1) := dk_42 (dk_at dksX10_date_10 21 rfl rfl)
theorem dX10_date_259 : decode cX10_date 259 = .ok (.getfield 35, 3) := dk_180 0 35 (dk_at dksX10_date_11 0 rfl rfl)
theorem dX10_date_262 : decode cX10_date 262 = .ok (.aload_n 2, 1) := dk_44 (dk_at dksX10_date_11 3 rfl rfl)
theorem dX10_date_263 : decode cX10_date 263 = .ok (.iload 6, 2) := dk_21 6 (dk_at dksX10_date_11 4 rfl rfl)
theorem dX10_date_265 : decode cX10_date 265 = .ok (.iaload, 1) := dk_46 (dk_at dksX10_date_11 6 rfl rfl)
theorem dX10_date_266 : decode cX10_date 266 = .ok (.iload 4, 2) := dk_21 4 (dk_at dksX10_date_11 7 rfl rfl)
theorem dX10_date_268 : decode cX10_date 268 = .ok (.iload 6, 2) := dk_21 6 (dk_at dksX10_date_11 9 rfl rfl)
theorem dX10_date_270 : decode cX10_date 270 = .ok (.ishr, 1) := dk_122 (dk_at dksX10_date_11 11 rfl rfl)
theorem dX10_date_271 : decode cX10_date 271 = .ok (.iconst 1, 1) := dk_4 (dk_at dksX10_date_11 12 rfl rfl)
theorem dX10_date_272 : decode cX10_date 272 = .ok (.iand, 1) := dk_126 (dk_at dksX10_date_11 13 rfl rfl)
theorem dX10_date_273 : decode cX10_date 273 = .ok (.iconst 1, 1) := dk_4 (dk_at dksX10_date_11 14 rfl rfl)
theorem dX10_date_274 : decode cX10_date 274 = .ok (.if_icmp .ne 7, 3) := dk_160 0 7 (dk_at dksX10_date_11 15 rfl rfl)
theorem dX10_date_277 : decode cX10_date 277 = .ok (.iconst 1, 1) := dk_4 (dk_at dksX10_date_11 18 rfl rfl)
theorem dX10_date_278 : decode cX10_date 278 = .ok (.goto 4, 3) := dk_167 0 4 (dk_at dksX10_date_11 19 rfl rfl)
theorem dX10_date_281 : decode cX10_date 281 = .ok (.iconst 0, 1) := dk_3 (dk_at dksX10_date_11 22 rfl rfl)
theorem dX10_date_282 : decode cX10_date 282 = .ok (.bastore, 1) := dk_84 (dk_at dksX10_date_11 23 rfl rfl)
theorem dX10_date_283 : decode cX10_date 283 = .ok (.iinc 6 1, 3) := dk_132 6 1 (dk_at dksX10_date_12 0 rfl rfl)
theorem dX10_date_286 : decode cX10_date 286 = .ok (.goto (-34), 3) := dk_167 255 222 (dk_at dksX10_date_12 3 rfl rfl)
theorem dX10_date_289 : decode cX10_date 289 = .ok (.return_, 1) := dk_177 (dk_at dksX10_date_12 6 rfl rfl)
abbrev cX10_clash : ByteArray := prog_19_method_7_code
def yX10_clash : MethodName := ⟨RX10, "clash", "(II)Z"⟩
def dkwX10_clash_5 : List UInt8 := [167, 0, 4, 3, 172]
abbrev dktX10_clash_5 : List UInt8 := dkwX10_clash_5 ++ []
def dkwX10_clash_4 : List UInt8 := [164, 0, 25, 29, 21, 4, 159, 0, 15, 42, 180, 0, 64, 21, 4, 50, 29, 51, 153, 0, 7, 4]
abbrev dktX10_clash_4 : List UInt8 := dkwX10_clash_4 ++ dktX10_clash_5
def dkwX10_clash_3 : List UInt8 := [182, 0, 51, 192, 0, 15, 3, 46, 4, 164, 0, 38, 42, 27, 182, 0, 97, 42, 28, 182, 0, 97]
abbrev dktX10_clash_3 : List UInt8 := dkwX10_clash_3 ++ dktX10_clash_4
def dkwX10_clash_2 : List UInt8 := [180, 0, 21, 27, 182, 0, 51, 192, 0, 15, 3, 46, 4, 160, 0, 58, 42, 180, 0, 3, 180, 0, 21, 28]
abbrev dktX10_clash_2 : List UInt8 := dkwX10_clash_2 ++ dktX10_clash_3
def dkwX10_clash_1 : List UInt8 := [180, 0, 3, 180, 0, 21, 28, 182, 0, 51, 192, 0, 15, 4, 46, 182, 0, 55, 54, 4, 42, 180, 0, 3]
abbrev dktX10_clash_1 : List UInt8 := dkwX10_clash_1 ++ dktX10_clash_2
def dkwX10_clash_0 : List UInt8 := [42, 42, 180, 0, 3, 180, 0, 21, 27, 182, 0, 51, 192, 0, 15, 4, 46, 182, 0, 55, 62, 42, 42]
abbrev dktX10_clash_0 : List UInt8 := dkwX10_clash_0 ++ dktX10_clash_1
theorem dksX10_clash_0 : cX10_clash.data.toList.drop 0 = dktX10_clash_0 := by decide +kernel
theorem dksX10_clash_1 : cX10_clash.data.toList.drop 23 = dktX10_clash_1 := dk_seg dksX10_clash_0 23 rfl rfl
theorem dksX10_clash_2 : cX10_clash.data.toList.drop 47 = dktX10_clash_2 := dk_seg dksX10_clash_1 24 rfl rfl
theorem dksX10_clash_3 : cX10_clash.data.toList.drop 71 = dktX10_clash_3 := dk_seg dksX10_clash_2 24 rfl rfl
theorem dksX10_clash_4 : cX10_clash.data.toList.drop 93 = dktX10_clash_4 := dk_seg dksX10_clash_3 22 rfl rfl
theorem dksX10_clash_5 : cX10_clash.data.toList.drop 115 = dktX10_clash_5 := dk_seg dksX10_clash_4 22 rfl rfl
theorem dX10_clash_0 : decode cX10_clash 0 = .ok (.aload_n 0, 1) := dk_42 (dk_at dksX10_clash_0 0 rfl rfl)
theorem dX10_clash_1 : decode cX10_clash 1 = .ok (.aload_n 0, 1) := dk_42 (dk_at dksX10_clash_0 1 rfl rfl)
theorem dX10_clash_2 : decode cX10_clash 2 = .ok (.getfield 3, 3) := dk_180 0 3 (dk_at dksX10_clash_0 2 rfl rfl)
theorem dX10_clash_5 : decode cX10_clash 5 = .ok (.getfield 21, 3) := dk_180 0 21 (dk_at dksX10_clash_0 5 rfl rfl)
theorem dX10_clash_8 : decode cX10_clash 8 = .ok (.iload_n 1, 1) := dk_27 (dk_at dksX10_clash_0 8 rfl rfl)
theorem dX10_clash_9 : decode cX10_clash 9 = .ok (.invokevirtual 51, 3) := dk_182 0 51 (dk_at dksX10_clash_0 9 rfl rfl)
theorem dX10_clash_12 : decode cX10_clash 12 = .ok (.checkcast 15, 3) := dk_192 0 15 (dk_at dksX10_clash_0 12 rfl rfl)
theorem dX10_clash_15 : decode cX10_clash 15 = .ok (.iconst 1, 1) := dk_4 (dk_at dksX10_clash_0 15 rfl rfl)
theorem dX10_clash_16 : decode cX10_clash 16 = .ok (.iaload, 1) := dk_46 (dk_at dksX10_clash_0 16 rfl rfl)
theorem dX10_clash_17 : decode cX10_clash 17 = .ok (.invokevirtual 55, 3) := dk_182 0 55 (dk_at dksX10_clash_0 17 rfl rfl)
theorem dX10_clash_20 : decode cX10_clash 20 = .ok (.istore_n 3, 1) := dk_62 (dk_at dksX10_clash_0 20 rfl rfl)
theorem dX10_clash_21 : decode cX10_clash 21 = .ok (.aload_n 0, 1) := dk_42 (dk_at dksX10_clash_0 21 rfl rfl)
theorem dX10_clash_22 : decode cX10_clash 22 = .ok (.aload_n 0, 1) := dk_42 (dk_at dksX10_clash_0 22 rfl rfl)
theorem dX10_clash_23 : decode cX10_clash 23 = .ok (.getfield 3, 3) := dk_180 0 3 (dk_at dksX10_clash_1 0 rfl rfl)
theorem dX10_clash_26 : decode cX10_clash 26 = .ok (.getfield 21, 3) := dk_180 0 21 (dk_at dksX10_clash_1 3 rfl rfl)
theorem dX10_clash_29 : decode cX10_clash 29 = .ok (.iload_n 2, 1) := dk_28 (dk_at dksX10_clash_1 6 rfl rfl)
theorem dX10_clash_30 : decode cX10_clash 30 = .ok (.invokevirtual 51, 3) := dk_182 0 51 (dk_at dksX10_clash_1 7 rfl rfl)
theorem dX10_clash_33 : decode cX10_clash 33 = .ok (.checkcast 15, 3) := dk_192 0 15 (dk_at dksX10_clash_1 10 rfl rfl)
theorem dX10_clash_36 : decode cX10_clash 36 = .ok (.iconst 1, 1) := dk_4 (dk_at dksX10_clash_1 13 rfl rfl)
theorem dX10_clash_37 : decode cX10_clash 37 = .ok (.iaload, 1) := dk_46 (dk_at dksX10_clash_1 14 rfl rfl)
theorem dX10_clash_38 : decode cX10_clash 38 = .ok (.invokevirtual 55, 3) := dk_182 0 55 (dk_at dksX10_clash_1 15 rfl rfl)
theorem dX10_clash_41 : decode cX10_clash 41 = .ok (.istore 4, 2) := dk_54 4 (dk_at dksX10_clash_1 18 rfl rfl)
theorem dX10_clash_43 : decode cX10_clash 43 = .ok (.aload_n 0, 1) := dk_42 (dk_at dksX10_clash_1 20 rfl rfl)
theorem dX10_clash_44 : decode cX10_clash 44 = .ok (.getfield 3, 3) := dk_180 0 3 (dk_at dksX10_clash_1 21 rfl rfl)
theorem dX10_clash_47 : decode cX10_clash 47 = .ok (.getfield 21, 3) := dk_180 0 21 (dk_at dksX10_clash_2 0 rfl rfl)
theorem dX10_clash_50 : decode cX10_clash 50 = .ok (.iload_n 1, 1) := dk_27 (dk_at dksX10_clash_2 3 rfl rfl)
theorem dX10_clash_51 : decode cX10_clash 51 = .ok (.invokevirtual 51, 3) := dk_182 0 51 (dk_at dksX10_clash_2 4 rfl rfl)
theorem dX10_clash_54 : decode cX10_clash 54 = .ok (.checkcast 15, 3) := dk_192 0 15 (dk_at dksX10_clash_2 7 rfl rfl)
theorem dX10_clash_57 : decode cX10_clash 57 = .ok (.iconst 0, 1) := dk_3 (dk_at dksX10_clash_2 10 rfl rfl)
theorem dX10_clash_58 : decode cX10_clash 58 = .ok (.iaload, 1) := dk_46 (dk_at dksX10_clash_2 11 rfl rfl)
theorem dX10_clash_59 : decode cX10_clash 59 = .ok (.iconst 1, 1) := dk_4 (dk_at dksX10_clash_2 12 rfl rfl)
theorem dX10_clash_60 : decode cX10_clash 60 = .ok (.if_icmp .ne 58, 3) := dk_160 0 58 (dk_at dksX10_clash_2 13 rfl rfl)
theorem dX10_clash_63 : decode cX10_clash 63 = .ok (.aload_n 0, 1) := dk_42 (dk_at dksX10_clash_2 16 rfl rfl)
theorem dX10_clash_64 : decode cX10_clash 64 = .ok (.getfield 3, 3) := dk_180 0 3 (dk_at dksX10_clash_2 17 rfl rfl)
theorem dX10_clash_67 : decode cX10_clash 67 = .ok (.getfield 21, 3) := dk_180 0 21 (dk_at dksX10_clash_2 20 rfl rfl)
theorem dX10_clash_70 : decode cX10_clash 70 = .ok (.iload_n 2, 1) := dk_28 (dk_at dksX10_clash_2 23 rfl rfl)
theorem dX10_clash_71 : decode cX10_clash 71 = .ok (.invokevirtual 51, 3) := dk_182 0 51 (dk_at dksX10_clash_3 0 rfl rfl)
theorem dX10_clash_74 : decode cX10_clash 74 = .ok (.checkcast 15, 3) := dk_192 0 15 (dk_at dksX10_clash_3 3 rfl rfl)
theorem dX10_clash_77 : decode cX10_clash 77 = .ok (.iconst 0, 1) := dk_3 (dk_at dksX10_clash_3 6 rfl rfl)
theorem dX10_clash_78 : decode cX10_clash 78 = .ok (.iaload, 1) := dk_46 (dk_at dksX10_clash_3 7 rfl rfl)
theorem dX10_clash_79 : decode cX10_clash 79 = .ok (.iconst 1, 1) := dk_4 (dk_at dksX10_clash_3 8 rfl rfl)
theorem dX10_clash_80 : decode cX10_clash 80 = .ok (.if_icmp .le 38, 3) := dk_164 0 38 (dk_at dksX10_clash_3 9 rfl rfl)
theorem dX10_clash_83 : decode cX10_clash 83 = .ok (.aload_n 0, 1) := dk_42 (dk_at dksX10_clash_3 12 rfl rfl)
theorem dX10_clash_84 : decode cX10_clash 84 = .ok (.iload_n 1, 1) := dk_27 (dk_at dksX10_clash_3 13 rfl rfl)
theorem dX10_clash_85 : decode cX10_clash 85 = .ok (.invokevirtual 97, 3) := dk_182 0 97 (dk_at dksX10_clash_3 14 rfl rfl)
theorem dX10_clash_88 : decode cX10_clash 88 = .ok (.aload_n 0, 1) := dk_42 (dk_at dksX10_clash_3 17 rfl rfl)
theorem dX10_clash_89 : decode cX10_clash 89 = .ok (.iload_n 2, 1) := dk_28 (dk_at dksX10_clash_3 18 rfl rfl)
theorem dX10_clash_90 : decode cX10_clash 90 = .ok (.invokevirtual 97, 3) := dk_182 0 97 (dk_at dksX10_clash_3 19 rfl rfl)
theorem dX10_clash_93 : decode cX10_clash 93 = .ok (.if_icmp .le 25, 3) := dk_164 0 25 (dk_at dksX10_clash_4 0 rfl rfl)
theorem dX10_clash_96 : decode cX10_clash 96 = .ok (.iload_n 3, 1) := dk_29 (dk_at dksX10_clash_4 3 rfl rfl)
theorem dX10_clash_97 : decode cX10_clash 97 = .ok (.iload 4, 2) := dk_21 4 (dk_at dksX10_clash_4 4 rfl rfl)
theorem dX10_clash_99 : decode cX10_clash 99 = .ok (.if_icmp .eq 15, 3) := dk_159 0 15 (dk_at dksX10_clash_4 6 rfl rfl)
theorem dX10_clash_102 : decode cX10_clash 102 = .ok (.aload_n 0, 1) := dk_42 (dk_at dksX10_clash_4 9 rfl rfl)
theorem dX10_clash_103 : decode cX10_clash 103 = .ok (.getfield 64, 3) := dk_180 0 64 (dk_at dksX10_clash_4 10 rfl rfl)
theorem dX10_clash_106 : decode cX10_clash 106 = .ok (.iload 4, 2) := dk_21 4 (dk_at dksX10_clash_4 13 rfl rfl)
theorem dX10_clash_108 : decode cX10_clash 108 = .ok (.aaload, 1) := dk_50 (dk_at dksX10_clash_4 15 rfl rfl)
theorem dX10_clash_109 : decode cX10_clash 109 = .ok (.iload_n 3, 1) := dk_29 (dk_at dksX10_clash_4 16 rfl rfl)
theorem dX10_clash_110 : decode cX10_clash 110 = .ok (.baload, 1) := dk_51 (dk_at dksX10_clash_4 17 rfl rfl)
theorem dX10_clash_111 : decode cX10_clash 111 = .ok (.ifCond .eq 7, 3) := dk_153 0 7 (dk_at dksX10_clash_4 18 rfl rfl)
theorem dX10_clash_114 : decode cX10_clash 114 = .ok (.iconst 1, 1) := dk_4 (dk_at dksX10_clash_4 21 rfl rfl)
theorem dX10_clash_115 : decode cX10_clash 115 = .ok (.goto 4, 3) := dk_167 0 4 (dk_at dksX10_clash_5 0 rfl rfl)
theorem dX10_clash_118 : decode cX10_clash 118 = .ok (.iconst 0, 1) := dk_3 (dk_at dksX10_clash_5 3 rfl rfl)
theorem dX10_clash_119 : decode cX10_clash 119 = .ok (.ireturn, 1) := dk_172 (dk_at dksX10_clash_5 4 rfl rfl)
abbrev cX10_bound : ByteArray := prog_19_method_6_code
def yX10_bound : MethodName := ⟨RX10, "bound", "(I)I"⟩
def dkwX10_bound_3 : List UInt8 := [104, 167, 0, 16, 17, 0, 200, 16, 25, 44, 5, 46, 16, 20, 100, 104, 96, 100, 172]
abbrev dktX10_bound_3 : List UInt8 := dkwX10_bound_3 ++ []
def dkwX10_bound_2 : List UInt8 := [180, 0, 94, 44, 5, 46, 46, 172, 17, 117, 48, 44, 5, 46, 16, 20, 163, 0, 12, 16, 10, 44, 5, 46]
abbrev dktX10_bound_2 : List UInt8 := dkwX10_bound_2 ++ dktX10_bound_3
def dkwX10_bound_1 : List UInt8 := [180, 0, 3, 180, 0, 91, 44, 5, 46, 46, 172, 44, 3, 46, 5, 160, 0, 15, 42, 180, 0, 3]
abbrev dktX10_bound_1 : List UInt8 := dkwX10_bound_1 ++ dktX10_bound_2
def dkwX10_bound_0 : List UInt8 := [42, 180, 0, 3, 180, 0, 21, 27, 182, 0, 51, 192, 0, 15, 77, 44, 3, 46, 4, 160, 0, 15, 42]
abbrev dktX10_bound_0 : List UInt8 := dkwX10_bound_0 ++ dktX10_bound_1
theorem dksX10_bound_0 : cX10_bound.data.toList.drop 0 = dktX10_bound_0 := by decide +kernel
theorem dksX10_bound_1 : cX10_bound.data.toList.drop 23 = dktX10_bound_1 := dk_seg dksX10_bound_0 23 rfl rfl
theorem dksX10_bound_2 : cX10_bound.data.toList.drop 45 = dktX10_bound_2 := dk_seg dksX10_bound_1 22 rfl rfl
theorem dksX10_bound_3 : cX10_bound.data.toList.drop 69 = dktX10_bound_3 := dk_seg dksX10_bound_2 24 rfl rfl
theorem dX10_bound_0 : decode cX10_bound 0 = .ok (.aload_n 0, 1) := dk_42 (dk_at dksX10_bound_0 0 rfl rfl)
theorem dX10_bound_1 : decode cX10_bound 1 = .ok (.getfield 3, 3) := dk_180 0 3 (dk_at dksX10_bound_0 1 rfl rfl)
theorem dX10_bound_4 : decode cX10_bound 4 = .ok (.getfield 21, 3) := dk_180 0 21 (dk_at dksX10_bound_0 4 rfl rfl)
theorem dX10_bound_7 : decode cX10_bound 7 = .ok (.iload_n 1, 1) := dk_27 (dk_at dksX10_bound_0 7 rfl rfl)
theorem dX10_bound_8 : decode cX10_bound 8 = .ok (.invokevirtual 51, 3) := dk_182 0 51 (dk_at dksX10_bound_0 8 rfl rfl)
theorem dX10_bound_11 : decode cX10_bound 11 = .ok (.checkcast 15, 3) := dk_192 0 15 (dk_at dksX10_bound_0 11 rfl rfl)
theorem dX10_bound_14 : decode cX10_bound 14 = .ok (.astore_n 2, 1) := dk_77 (dk_at dksX10_bound_0 14 rfl rfl)
theorem dX10_bound_15 : decode cX10_bound 15 = .ok (.aload_n 2, 1) := dk_44 (dk_at dksX10_bound_0 15 rfl rfl)
theorem dX10_bound_16 : decode cX10_bound 16 = .ok (.iconst 0, 1) := dk_3 (dk_at dksX10_bound_0 16 rfl rfl)
theorem dX10_bound_17 : decode cX10_bound 17 = .ok (.iaload, 1) := dk_46 (dk_at dksX10_bound_0 17 rfl rfl)
theorem dX10_bound_18 : decode cX10_bound 18 = .ok (.iconst 1, 1) := dk_4 (dk_at dksX10_bound_0 18 rfl rfl)
theorem dX10_bound_19 : decode cX10_bound 19 = .ok (.if_icmp .ne 15, 3) := dk_160 0 15 (dk_at dksX10_bound_0 19 rfl rfl)
theorem dX10_bound_22 : decode cX10_bound 22 = .ok (.aload_n 0, 1) := dk_42 (dk_at dksX10_bound_0 22 rfl rfl)
theorem dX10_bound_23 : decode cX10_bound 23 = .ok (.getfield 3, 3) := dk_180 0 3 (dk_at dksX10_bound_1 0 rfl rfl)
theorem dX10_bound_26 : decode cX10_bound 26 = .ok (.getfield 91, 3) := dk_180 0 91 (dk_at dksX10_bound_1 3 rfl rfl)
theorem dX10_bound_29 : decode cX10_bound 29 = .ok (.aload_n 2, 1) := dk_44 (dk_at dksX10_bound_1 6 rfl rfl)
theorem dX10_bound_30 : decode cX10_bound 30 = .ok (.iconst 2, 1) := dk_5 (dk_at dksX10_bound_1 7 rfl rfl)
theorem dX10_bound_31 : decode cX10_bound 31 = .ok (.iaload, 1) := dk_46 (dk_at dksX10_bound_1 8 rfl rfl)
theorem dX10_bound_32 : decode cX10_bound 32 = .ok (.iaload, 1) := dk_46 (dk_at dksX10_bound_1 9 rfl rfl)
theorem dX10_bound_33 : decode cX10_bound 33 = .ok (.ireturn, 1) := dk_172 (dk_at dksX10_bound_1 10 rfl rfl)
theorem dX10_bound_34 : decode cX10_bound 34 = .ok (.aload_n 2, 1) := dk_44 (dk_at dksX10_bound_1 11 rfl rfl)
theorem dX10_bound_35 : decode cX10_bound 35 = .ok (.iconst 0, 1) := dk_3 (dk_at dksX10_bound_1 12 rfl rfl)
theorem dX10_bound_36 : decode cX10_bound 36 = .ok (.iaload, 1) := dk_46 (dk_at dksX10_bound_1 13 rfl rfl)
theorem dX10_bound_37 : decode cX10_bound 37 = .ok (.iconst 2, 1) := dk_5 (dk_at dksX10_bound_1 14 rfl rfl)
theorem dX10_bound_38 : decode cX10_bound 38 = .ok (.if_icmp .ne 15, 3) := dk_160 0 15 (dk_at dksX10_bound_1 15 rfl rfl)
theorem dX10_bound_41 : decode cX10_bound 41 = .ok (.aload_n 0, 1) := dk_42 (dk_at dksX10_bound_1 18 rfl rfl)
theorem dX10_bound_42 : decode cX10_bound 42 = .ok (.getfield 3, 3) := dk_180 0 3 (dk_at dksX10_bound_1 19 rfl rfl)
theorem dX10_bound_45 : decode cX10_bound 45 = .ok (.getfield 94, 3) := dk_180 0 94 (dk_at dksX10_bound_2 0 rfl rfl)
theorem dX10_bound_48 : decode cX10_bound 48 = .ok (.aload_n 2, 1) := dk_44 (dk_at dksX10_bound_2 3 rfl rfl)
theorem dX10_bound_49 : decode cX10_bound 49 = .ok (.iconst 2, 1) := dk_5 (dk_at dksX10_bound_2 4 rfl rfl)
theorem dX10_bound_50 : decode cX10_bound 50 = .ok (.iaload, 1) := dk_46 (dk_at dksX10_bound_2 5 rfl rfl)
theorem dX10_bound_51 : decode cX10_bound 51 = .ok (.iaload, 1) := dk_46 (dk_at dksX10_bound_2 6 rfl rfl)
theorem dX10_bound_52 : decode cX10_bound 52 = .ok (.ireturn, 1) := dk_172 (dk_at dksX10_bound_2 7 rfl rfl)
theorem dX10_bound_53 : decode cX10_bound 53 = .ok (.sipush 30000, 3) := dk_17 117 48 (dk_at dksX10_bound_2 8 rfl rfl)
theorem dX10_bound_56 : decode cX10_bound 56 = .ok (.aload_n 2, 1) := dk_44 (dk_at dksX10_bound_2 11 rfl rfl)
theorem dX10_bound_57 : decode cX10_bound 57 = .ok (.iconst 2, 1) := dk_5 (dk_at dksX10_bound_2 12 rfl rfl)
theorem dX10_bound_58 : decode cX10_bound 58 = .ok (.iaload, 1) := dk_46 (dk_at dksX10_bound_2 13 rfl rfl)
theorem dX10_bound_59 : decode cX10_bound 59 = .ok (.bipush 20, 2) := dk_16 20 (dk_at dksX10_bound_2 14 rfl rfl)
theorem dX10_bound_61 : decode cX10_bound 61 = .ok (.if_icmp .gt 12, 3) := dk_163 0 12 (dk_at dksX10_bound_2 16 rfl rfl)
theorem dX10_bound_64 : decode cX10_bound 64 = .ok (.bipush 10, 2) := dk_16 10 (dk_at dksX10_bound_2 19 rfl rfl)
theorem dX10_bound_66 : decode cX10_bound 66 = .ok (.aload_n 2, 1) := dk_44 (dk_at dksX10_bound_2 21 rfl rfl)
theorem dX10_bound_67 : decode cX10_bound 67 = .ok (.iconst 2, 1) := dk_5 (dk_at dksX10_bound_2 22 rfl rfl)
theorem dX10_bound_68 : decode cX10_bound 68 = .ok (.iaload, 1) := dk_46 (dk_at dksX10_bound_2 23 rfl rfl)
theorem dX10_bound_69 : decode cX10_bound 69 = .ok (.imul, 1) := dk_104 (dk_at dksX10_bound_3 0 rfl rfl)
theorem dX10_bound_70 : decode cX10_bound 70 = .ok (.goto 16, 3) := dk_167 0 16 (dk_at dksX10_bound_3 1 rfl rfl)
theorem dX10_bound_73 : decode cX10_bound 73 = .ok (.sipush 200, 3) := dk_17 0 200 (dk_at dksX10_bound_3 4 rfl rfl)
theorem dX10_bound_76 : decode cX10_bound 76 = .ok (.bipush 25, 2) := dk_16 25 (dk_at dksX10_bound_3 7 rfl rfl)
theorem dX10_bound_78 : decode cX10_bound 78 = .ok (.aload_n 2, 1) := dk_44 (dk_at dksX10_bound_3 9 rfl rfl)
theorem dX10_bound_79 : decode cX10_bound 79 = .ok (.iconst 2, 1) := dk_5 (dk_at dksX10_bound_3 10 rfl rfl)
theorem dX10_bound_80 : decode cX10_bound 80 = .ok (.iaload, 1) := dk_46 (dk_at dksX10_bound_3 11 rfl rfl)
theorem dX10_bound_81 : decode cX10_bound 81 = .ok (.bipush 20, 2) := dk_16 20 (dk_at dksX10_bound_3 12 rfl rfl)
theorem dX10_bound_83 : decode cX10_bound 83 = .ok (.isub, 1) := dk_100 (dk_at dksX10_bound_3 14 rfl rfl)
theorem dX10_bound_84 : decode cX10_bound 84 = .ok (.imul, 1) := dk_104 (dk_at dksX10_bound_3 15 rfl rfl)
theorem dX10_bound_85 : decode cX10_bound 85 = .ok (.iadd, 1) := dk_96 (dk_at dksX10_bound_3 16 rfl rfl)
theorem dX10_bound_86 : decode cX10_bound 86 = .ok (.isub, 1) := dk_100 (dk_at dksX10_bound_3 17 rfl rfl)
theorem dX10_bound_87 : decode cX10_bound 87 = .ok (.ireturn, 1) := dk_172 (dk_at dksX10_bound_3 18 rfl rfl)
abbrev cX10_reason : ByteArray := prog_19_method_9_code
def yX10_reason : MethodName := ⟨RX10, "reason", "(IZ)I"⟩
def dkwX10_reason_8 : List UInt8 := [132, 5, 1, 167, 255, 77, 21, 4, 172]
abbrev dktX10_reason_8 : List UInt8 := dkwX10_reason_8 ++ []
def dkwX10_reason_7 : List UInt8 := [167, 0, 18, 42, 21, 5, 182, 0, 97, 42, 21, 4, 182, 0, 97, 164, 0, 7, 21, 5, 54, 4]
abbrev dktX10_reason_7 : List UInt8 := dkwX10_reason_7 ++ dktX10_reason_8
def dkwX10_reason_6 : List UInt8 := [2, 159, 0, 40, 28, 153, 0, 21, 42, 21, 5, 182, 0, 97, 42, 21, 4, 182, 0, 97, 162, 0, 25]
abbrev dktX10_reason_6 : List UInt8 := dkwX10_reason_6 ++ dktX10_reason_7
def dkwX10_reason_5 : List UInt8 := [51, 153, 0, 68, 167, 0, 18, 42, 180, 0, 64, 29, 50, 21, 7, 51, 154, 0, 6, 167, 0, 50, 21, 4]
abbrev dktX10_reason_5 : List UInt8 := dkwX10_reason_5 ++ dktX10_reason_6
def dkwX10_reason_4 : List UInt8 := [46, 182, 0, 55, 54, 7, 21, 7, 29, 159, 0, 37, 28, 153, 0, 18, 42, 180, 0, 64, 21, 7, 50, 29]
abbrev dktX10_reason_4 : List UInt8 := dkwX10_reason_4 ++ dktX10_reason_5
def dkwX10_reason_3 : List UInt8 := [25, 6, 3, 46, 4, 160, 0, 7, 4, 167, 0, 4, 3, 28, 160, 0, 6, 167, 0, 100, 42, 25, 6, 4]
abbrev dktX10_reason_3 : List UInt8 := dkwX10_reason_3 ++ dktX10_reason_4
def dkwX10_reason_2 : List UInt8 := [21, 5, 51, 153, 0, 137, 42, 180, 0, 35, 21, 5, 51, 154, 0, 127, 25, 6, 3, 46, 153, 0, 120]
abbrev dktX10_reason_2 : List UInt8 := dkwX10_reason_2 ++ dktX10_reason_3
def dkwX10_reason_1 : List UInt8 := [162, 0, 170, 42, 180, 0, 3, 180, 0, 21, 21, 5, 182, 0, 51, 192, 0, 15, 58, 6, 42, 180, 0, 31]
abbrev dktX10_reason_1 : List UInt8 := dkwX10_reason_1 ++ dktX10_reason_2
def dkwX10_reason_0 : List UInt8 := [42, 27, 182, 0, 55, 62, 2, 54, 4, 3, 54, 5, 21, 5, 42, 180, 0, 3, 180, 0, 21, 182, 0, 25]
abbrev dktX10_reason_0 : List UInt8 := dkwX10_reason_0 ++ dktX10_reason_1
theorem dksX10_reason_0 : cX10_reason.data.toList.drop 0 = dktX10_reason_0 := by decide +kernel
theorem dksX10_reason_1 : cX10_reason.data.toList.drop 24 = dktX10_reason_1 := dk_seg dksX10_reason_0 24 rfl rfl
theorem dksX10_reason_2 : cX10_reason.data.toList.drop 48 = dktX10_reason_2 := dk_seg dksX10_reason_1 24 rfl rfl
theorem dksX10_reason_3 : cX10_reason.data.toList.drop 71 = dktX10_reason_3 := dk_seg dksX10_reason_2 23 rfl rfl
theorem dksX10_reason_4 : cX10_reason.data.toList.drop 95 = dktX10_reason_4 := dk_seg dksX10_reason_3 24 rfl rfl
theorem dksX10_reason_5 : cX10_reason.data.toList.drop 119 = dktX10_reason_5 := dk_seg dksX10_reason_4 24 rfl rfl
theorem dksX10_reason_6 : cX10_reason.data.toList.drop 143 = dktX10_reason_6 := dk_seg dksX10_reason_5 24 rfl rfl
theorem dksX10_reason_7 : cX10_reason.data.toList.drop 166 = dktX10_reason_7 := dk_seg dksX10_reason_6 23 rfl rfl
theorem dksX10_reason_8 : cX10_reason.data.toList.drop 188 = dktX10_reason_8 := dk_seg dksX10_reason_7 22 rfl rfl
theorem dX10_reason_0 : decode cX10_reason 0 = .ok (.aload_n 0, 1) := dk_42 (dk_at dksX10_reason_0 0 rfl rfl)
theorem dX10_reason_1 : decode cX10_reason 1 = .ok (.iload_n 1, 1) := dk_27 (dk_at dksX10_reason_0 1 rfl rfl)
theorem dX10_reason_2 : decode cX10_reason 2 = .ok (.invokevirtual 55, 3) := dk_182 0 55 (dk_at dksX10_reason_0 2 rfl rfl)
theorem dX10_reason_5 : decode cX10_reason 5 = .ok (.istore_n 3, 1) := dk_62 (dk_at dksX10_reason_0 5 rfl rfl)
theorem dX10_reason_6 : decode cX10_reason 6 = .ok (.iconst (-1), 1) := dk_2 (dk_at dksX10_reason_0 6 rfl rfl)
theorem dX10_reason_7 : decode cX10_reason 7 = .ok (.istore 4, 2) := dk_54 4 (dk_at dksX10_reason_0 7 rfl rfl)
theorem dX10_reason_9 : decode cX10_reason 9 = .ok (.iconst 0, 1) := dk_3 (dk_at dksX10_reason_0 9 rfl rfl)
theorem dX10_reason_10 : decode cX10_reason 10 = .ok (.istore 5, 2) := dk_54 5 (dk_at dksX10_reason_0 10 rfl rfl)
theorem dX10_reason_12 : decode cX10_reason 12 = .ok (.iload 5, 2) := dk_21 5 (dk_at dksX10_reason_0 12 rfl rfl)
theorem dX10_reason_14 : decode cX10_reason 14 = .ok (.aload_n 0, 1) := dk_42 (dk_at dksX10_reason_0 14 rfl rfl)
theorem dX10_reason_15 : decode cX10_reason 15 = .ok (.getfield 3, 3) := dk_180 0 3 (dk_at dksX10_reason_0 15 rfl rfl)
theorem dX10_reason_18 : decode cX10_reason 18 = .ok (.getfield 21, 3) := dk_180 0 21 (dk_at dksX10_reason_0 18 rfl rfl)
theorem dX10_reason_21 : decode cX10_reason 21 = .ok (.invokevirtual 25, 3) := dk_182 0 25 (dk_at dksX10_reason_0 21 rfl rfl)
theorem dX10_reason_24 : decode cX10_reason 24 = .ok (.if_icmp .ge 170, 3) := dk_162 0 170 (dk_at dksX10_reason_1 0 rfl rfl)
theorem dX10_reason_27 : decode cX10_reason 27 = .ok (.aload_n 0, 1) := dk_42 (dk_at dksX10_reason_1 3 rfl rfl)
theorem dX10_reason_28 : decode cX10_reason 28 = .ok (.getfield 3, 3) := dk_180 0 3 (dk_at dksX10_reason_1 4 rfl rfl)
theorem dX10_reason_31 : decode cX10_reason 31 = .ok (.getfield 21, 3) := dk_180 0 21 (dk_at dksX10_reason_1 7 rfl rfl)
theorem dX10_reason_34 : decode cX10_reason 34 = .ok (.iload 5, 2) := dk_21 5 (dk_at dksX10_reason_1 10 rfl rfl)
theorem dX10_reason_36 : decode cX10_reason 36 = .ok (.invokevirtual 51, 3) := dk_182 0 51 (dk_at dksX10_reason_1 12 rfl rfl)
theorem dX10_reason_39 : decode cX10_reason 39 = .ok (.checkcast 15, 3) := dk_192 0 15 (dk_at dksX10_reason_1 15 rfl rfl)
theorem dX10_reason_42 : decode cX10_reason 42 = .ok (.astore 6, 2) := dk_58 6 (dk_at dksX10_reason_1 18 rfl rfl)
theorem dX10_reason_44 : decode cX10_reason 44 = .ok (.aload_n 0, 1) := dk_42 (dk_at dksX10_reason_1 20 rfl rfl)
theorem dX10_reason_45 : decode cX10_reason 45 = .ok (.getfield 31, 3) := dk_180 0 31 (dk_at dksX10_reason_1 21 rfl rfl)
theorem dX10_reason_48 : decode cX10_reason 48 = .ok (.iload 5, 2) := dk_21 5 (dk_at dksX10_reason_2 0 rfl rfl)
theorem dX10_reason_50 : decode cX10_reason 50 = .ok (.baload, 1) := dk_51 (dk_at dksX10_reason_2 2 rfl rfl)
theorem dX10_reason_51 : decode cX10_reason 51 = .ok (.ifCond .eq 137, 3) := dk_153 0 137 (dk_at dksX10_reason_2 3 rfl rfl)
theorem dX10_reason_54 : decode cX10_reason 54 = .ok (.aload_n 0, 1) := dk_42 (dk_at dksX10_reason_2 6 rfl rfl)
theorem dX10_reason_55 : decode cX10_reason 55 = .ok (.getfield 35, 3) := dk_180 0 35 (dk_at dksX10_reason_2 7 rfl rfl)
theorem dX10_reason_58 : decode cX10_reason 58 = .ok (.iload 5, 2) := dk_21 5 (dk_at dksX10_reason_2 10 rfl rfl)
theorem dX10_reason_60 : decode cX10_reason 60 = .ok (.baload, 1) := dk_51 (dk_at dksX10_reason_2 12 rfl rfl)
theorem dX10_reason_61 : decode cX10_reason 61 = .ok (.ifCond .ne 127, 3) := dk_154 0 127 (dk_at dksX10_reason_2 13 rfl rfl)
theorem dX10_reason_64 : decode cX10_reason 64 = .ok (.aload 6, 2) := dk_25 6 (dk_at dksX10_reason_2 16 rfl rfl)
theorem dX10_reason_66 : decode cX10_reason 66 = .ok (.iconst 0, 1) := dk_3 (dk_at dksX10_reason_2 18 rfl rfl)
theorem dX10_reason_67 : decode cX10_reason 67 = .ok (.iaload, 1) := dk_46 (dk_at dksX10_reason_2 19 rfl rfl)
theorem dX10_reason_68 : decode cX10_reason 68 = .ok (.ifCond .eq 120, 3) := dk_153 0 120 (dk_at dksX10_reason_2 20 rfl rfl)
theorem dX10_reason_71 : decode cX10_reason 71 = .ok (.aload 6, 2) := dk_25 6 (dk_at dksX10_reason_3 0 rfl rfl)
theorem dX10_reason_73 : decode cX10_reason 73 = .ok (.iconst 0, 1) := dk_3 (dk_at dksX10_reason_3 2 rfl rfl)
theorem dX10_reason_74 : decode cX10_reason 74 = .ok (.iaload, 1) := dk_46 (dk_at dksX10_reason_3 3 rfl rfl)
theorem dX10_reason_75 : decode cX10_reason 75 = .ok (.iconst 1, 1) := dk_4 (dk_at dksX10_reason_3 4 rfl rfl)
theorem dX10_reason_76 : decode cX10_reason 76 = .ok (.if_icmp .ne 7, 3) := dk_160 0 7 (dk_at dksX10_reason_3 5 rfl rfl)
theorem dX10_reason_79 : decode cX10_reason 79 = .ok (.iconst 1, 1) := dk_4 (dk_at dksX10_reason_3 8 rfl rfl)
theorem dX10_reason_80 : decode cX10_reason 80 = .ok (.goto 4, 3) := dk_167 0 4 (dk_at dksX10_reason_3 9 rfl rfl)
theorem dX10_reason_83 : decode cX10_reason 83 = .ok (.iconst 0, 1) := dk_3 (dk_at dksX10_reason_3 12 rfl rfl)
theorem dX10_reason_84 : decode cX10_reason 84 = .ok (.iload_n 2, 1) := dk_28 (dk_at dksX10_reason_3 13 rfl rfl)
theorem dX10_reason_85 : decode cX10_reason 85 = .ok (.if_icmp .ne 6, 3) := dk_160 0 6 (dk_at dksX10_reason_3 14 rfl rfl)
theorem dX10_reason_88 : decode cX10_reason 88 = .ok (.goto 100, 3) := dk_167 0 100 (dk_at dksX10_reason_3 17 rfl rfl)
theorem dX10_reason_91 : decode cX10_reason 91 = .ok (.aload_n 0, 1) := dk_42 (dk_at dksX10_reason_3 20 rfl rfl)
theorem dX10_reason_92 : decode cX10_reason 92 = .ok (.aload 6, 2) := dk_25 6 (dk_at dksX10_reason_3 21 rfl rfl)
theorem dX10_reason_94 : decode cX10_reason 94 = .ok (.iconst 1, 1) := dk_4 (dk_at dksX10_reason_3 23 rfl rfl)
theorem dX10_reason_95 : decode cX10_reason 95 = .ok (.iaload, 1) := dk_46 (dk_at dksX10_reason_4 0 rfl rfl)
theorem dX10_reason_96 : decode cX10_reason 96 = .ok (.invokevirtual 55, 3) := dk_182 0 55 (dk_at dksX10_reason_4 1 rfl rfl)
theorem dX10_reason_99 : decode cX10_reason 99 = .ok (.istore 7, 2) := dk_54 7 (dk_at dksX10_reason_4 4 rfl rfl)
theorem dX10_reason_101 : decode cX10_reason 101 = .ok (.iload 7, 2) := dk_21 7 (dk_at dksX10_reason_4 6 rfl rfl)
theorem dX10_reason_103 : decode cX10_reason 103 = .ok (.iload_n 3, 1) := dk_29 (dk_at dksX10_reason_4 8 rfl rfl)
theorem dX10_reason_104 : decode cX10_reason 104 = .ok (.if_icmp .eq 37, 3) := dk_159 0 37 (dk_at dksX10_reason_4 9 rfl rfl)
theorem dX10_reason_107 : decode cX10_reason 107 = .ok (.iload_n 2, 1) := dk_28 (dk_at dksX10_reason_4 12 rfl rfl)
theorem dX10_reason_108 : decode cX10_reason 108 = .ok (.ifCond .eq 18, 3) := dk_153 0 18 (dk_at dksX10_reason_4 13 rfl rfl)
theorem dX10_reason_111 : decode cX10_reason 111 = .ok (.aload_n 0, 1) := dk_42 (dk_at dksX10_reason_4 16 rfl rfl)
theorem dX10_reason_112 : decode cX10_reason 112 = .ok (.getfield 64, 3) := dk_180 0 64 (dk_at dksX10_reason_4 17 rfl rfl)
theorem dX10_reason_115 : decode cX10_reason 115 = .ok (.iload 7, 2) := dk_21 7 (dk_at dksX10_reason_4 20 rfl rfl)
theorem dX10_reason_117 : decode cX10_reason 117 = .ok (.aaload, 1) := dk_50 (dk_at dksX10_reason_4 22 rfl rfl)
theorem dX10_reason_118 : decode cX10_reason 118 = .ok (.iload_n 3, 1) := dk_29 (dk_at dksX10_reason_4 23 rfl rfl)
theorem dX10_reason_119 : decode cX10_reason 119 = .ok (.baload, 1) := dk_51 (dk_at dksX10_reason_5 0 rfl rfl)
theorem dX10_reason_120 : decode cX10_reason 120 = .ok (.ifCond .eq 68, 3) := dk_153 0 68 (dk_at dksX10_reason_5 1 rfl rfl)
theorem dX10_reason_123 : decode cX10_reason 123 = .ok (.goto 18, 3) := dk_167 0 18 (dk_at dksX10_reason_5 4 rfl rfl)
theorem dX10_reason_126 : decode cX10_reason 126 = .ok (.aload_n 0, 1) := dk_42 (dk_at dksX10_reason_5 7 rfl rfl)
theorem dX10_reason_127 : decode cX10_reason 127 = .ok (.getfield 64, 3) := dk_180 0 64 (dk_at dksX10_reason_5 8 rfl rfl)
theorem dX10_reason_130 : decode cX10_reason 130 = .ok (.iload_n 3, 1) := dk_29 (dk_at dksX10_reason_5 11 rfl rfl)
theorem dX10_reason_131 : decode cX10_reason 131 = .ok (.aaload, 1) := dk_50 (dk_at dksX10_reason_5 12 rfl rfl)
theorem dX10_reason_132 : decode cX10_reason 132 = .ok (.iload 7, 2) := dk_21 7 (dk_at dksX10_reason_5 13 rfl rfl)
theorem dX10_reason_134 : decode cX10_reason 134 = .ok (.baload, 1) := dk_51 (dk_at dksX10_reason_5 15 rfl rfl)
theorem dX10_reason_135 : decode cX10_reason 135 = .ok (.ifCond .ne 6, 3) := dk_154 0 6 (dk_at dksX10_reason_5 16 rfl rfl)
theorem dX10_reason_138 : decode cX10_reason 138 = .ok (.goto 50, 3) := dk_167 0 50 (dk_at dksX10_reason_5 19 rfl rfl)
theorem dX10_reason_141 : decode cX10_reason 141 = .ok (.iload 4, 2) := dk_21 4 (dk_at dksX10_reason_5 22 rfl rfl)
theorem dX10_reason_143 : decode cX10_reason 143 = .ok (.iconst (-1), 1) := dk_2 (dk_at dksX10_reason_6 0 rfl rfl)
theorem dX10_reason_144 : decode cX10_reason 144 = .ok (.if_icmp .eq 40, 3) := dk_159 0 40 (dk_at dksX10_reason_6 1 rfl rfl)
theorem dX10_reason_147 : decode cX10_reason 147 = .ok (.iload_n 2, 1) := dk_28 (dk_at dksX10_reason_6 4 rfl rfl)
theorem dX10_reason_148 : decode cX10_reason 148 = .ok (.ifCond .eq 21, 3) := dk_153 0 21 (dk_at dksX10_reason_6 5 rfl rfl)
theorem dX10_reason_151 : decode cX10_reason 151 = .ok (.aload_n 0, 1) := dk_42 (dk_at dksX10_reason_6 8 rfl rfl)
theorem dX10_reason_152 : decode cX10_reason 152 = .ok (.iload 5, 2) := dk_21 5 (dk_at dksX10_reason_6 9 rfl rfl)
theorem dX10_reason_154 : decode cX10_reason 154 = .ok (.invokevirtual 97, 3) := dk_182 0 97 (dk_at dksX10_reason_6 11 rfl rfl)
theorem dX10_reason_157 : decode cX10_reason 157 = .ok (.aload_n 0, 1) := dk_42 (dk_at dksX10_reason_6 14 rfl rfl)
theorem dX10_reason_158 : decode cX10_reason 158 = .ok (.iload 4, 2) := dk_21 4 (dk_at dksX10_reason_6 15 rfl rfl)
theorem dX10_reason_160 : decode cX10_reason 160 = .ok (.invokevirtual 97, 3) := dk_182 0 97 (dk_at dksX10_reason_6 17 rfl rfl)
theorem dX10_reason_163 : decode cX10_reason 163 = .ok (.if_icmp .ge 25, 3) := dk_162 0 25 (dk_at dksX10_reason_6 20 rfl rfl)
theorem dX10_reason_166 : decode cX10_reason 166 = .ok (.goto 18, 3) := dk_167 0 18 (dk_at dksX10_reason_7 0 rfl rfl)
theorem dX10_reason_169 : decode cX10_reason 169 = .ok (.aload_n 0, 1) := dk_42 (dk_at dksX10_reason_7 3 rfl rfl)
theorem dX10_reason_170 : decode cX10_reason 170 = .ok (.iload 5, 2) := dk_21 5 (dk_at dksX10_reason_7 4 rfl rfl)
theorem dX10_reason_172 : decode cX10_reason 172 = .ok (.invokevirtual 97, 3) := dk_182 0 97 (dk_at dksX10_reason_7 6 rfl rfl)
theorem dX10_reason_175 : decode cX10_reason 175 = .ok (.aload_n 0, 1) := dk_42 (dk_at dksX10_reason_7 9 rfl rfl)
theorem dX10_reason_176 : decode cX10_reason 176 = .ok (.iload 4, 2) := dk_21 4 (dk_at dksX10_reason_7 10 rfl rfl)
theorem dX10_reason_178 : decode cX10_reason 178 = .ok (.invokevirtual 97, 3) := dk_182 0 97 (dk_at dksX10_reason_7 12 rfl rfl)
theorem dX10_reason_181 : decode cX10_reason 181 = .ok (.if_icmp .le 7, 3) := dk_164 0 7 (dk_at dksX10_reason_7 15 rfl rfl)
theorem dX10_reason_184 : decode cX10_reason 184 = .ok (.iload 5, 2) := dk_21 5 (dk_at dksX10_reason_7 18 rfl rfl)
theorem dX10_reason_186 : decode cX10_reason 186 = .ok (.istore 4, 2) := dk_54 4 (dk_at dksX10_reason_7 20 rfl rfl)
theorem dX10_reason_188 : decode cX10_reason 188 = .ok (.iinc 5 1, 3) := dk_132 5 1 (dk_at dksX10_reason_8 0 rfl rfl)
theorem dX10_reason_191 : decode cX10_reason 191 = .ok (.goto (-179), 3) := dk_167 255 77 (dk_at dksX10_reason_8 3 rfl rfl)
theorem dX10_reason_194 : decode cX10_reason 194 = .ok (.iload 4, 2) := dk_21 4 (dk_at dksX10_reason_8 6 rfl rfl)
theorem dX10_reason_196 : decode cX10_reason 196 = .ok (.ireturn, 1) := dk_172 (dk_at dksX10_reason_8 8 rfl rfl)
theorem q121 : (Jvm.Cond.initialized "FigureSurveyModel$Found") ∈ lw_all := lw_g (lw_at lw_m1 48 rfl) rfl
theorem q450 : (Jvm.Cond.selects "FigureSurveyModel$Found" ({ cls := "java/lang/Object", name := "getClass", desc := "()Ljava/lang/Class;" } : Jvm.MethodName) ({ cls := "java/lang/Object", name := "getClass", desc := "()Ljava/lang/Class;" } : Jvm.MethodName)) ∈ lw_all := lw_g (lw_at lw_m2 137 rfl) rfl
theorem q1220 : (Jvm.Cond.selects "FigureSurveyModel$Found" ({ cls := "java/lang/Object", name := "equals", desc := "(Ljava/lang/Object;)Z" } : Jvm.MethodName) ({ cls := "java/lang/Object", name := "equals", desc := "(Ljava/lang/Object;)Z" } : Jvm.MethodName)) ∈ lw_all := lw_g (lw_at lw_m5 187 rfl) rfl
theorem q2430 : (Jvm.Cond.fieldLinkNest "FigureSurveyModel$Found" (38 : Nat) "FigureSurveyModel" "figures" "Ljava/util/ArrayList;" "FigureSurveyModel") ∈ lw_tbl := lw_at lw_m10 197 rfl
theorem q2435 : (Jvm.Cond.fieldLinkNest "FigureSurveyModel$Found" (21 : Nat) "FigureSurveyModel" "findings" "Ljava/util/ArrayList;" "FigureSurveyModel") ∈ lw_tbl := lw_at lw_m10 202 rfl
theorem q2438 : (Jvm.Cond.fieldLinkNest "FigureSurveyModel$Found" (91 : Nat) "FigureSurveyModel" "weapons" "[I" "FigureSurveyModel") ∈ lw_tbl := lw_at lw_m10 205 rfl
theorem q2440 : (Jvm.Cond.fieldLinkNest "FigureSurveyModel$Found" (94 : Nat) "FigureSurveyModel" "animals" "[I" "FigureSurveyModel") ∈ lw_tbl := lw_at lw_m10 207 rfl
theorem q2683 : (Jvm.Cond.instantiable "FigureSurveyModel$Found" (8 : Nat)) ∈ lw_all := lw_g (lw_at lw_m11 210 rfl) rfl
theorem q2685 : (Jvm.Cond.instanceMethod ({ cls := "FigureSurveyModel$Found", name := "<init>", desc := "(LFigureSurveyModel;I)V" } : Jvm.MethodName)) ∈ lw_all := lw_g (lw_at lw_m11 212 rfl) rfl
theorem q2686 : (Jvm.Cond.code ({ cls := "FigureSurveyModel$Found", name := "<init>", desc := "(LFigureSurveyModel;I)V" } : Jvm.MethodName) prog_19_method_1_code (7 : Nat) (Option.none : Option Jvm.ClassFile.FieldType)) ∈ lw_all := lw_g (lw_at lw_m11 213 rfl) rfl
theorem q2687 : (Jvm.Cond.methodLink "FigureSurveyModel$Found" (9 : Nat) ({ cls := "java/lang/Object", name := "<init>", desc := "()V" } : Jvm.MethodName)) ∈ lw_all := lw_g (lw_at lw_m11 214 rfl) rfl
theorem q2688 : (Jvm.Cond.classLink "FigureSurveyModel$Found" (15 : Nat) "[I") ∈ lw_all := lw_g (lw_at lw_m11 215 rfl) rfl
theorem q2689 : (Jvm.Cond.methodLink "FigureSurveyModel$Found" (25 : Nat) ({ cls := "java/util/ArrayList", name := "size", desc := "()I" } : Jvm.MethodName)) ∈ lw_all := lw_g (lw_at lw_m11 216 rfl) rfl
theorem q2690 : (Jvm.Cond.methodLinkNest "FigureSurveyModel$Found" (41 : Nat) ({ cls := "FigureSurveyModel", name := "panelOf", desc := "(I)I" } : Jvm.MethodName) "FigureSurveyModel") ∈ lw_tbl := lw_at lw_m11 217 rfl
theorem q2691 : (Jvm.Cond.methodLinkNest "FigureSurveyModel$Found" (45 : Nat) ({ cls := "FigureSurveyModel", name := "doubt", desc := "(I)I" } : Jvm.MethodName) "FigureSurveyModel") ∈ lw_tbl := lw_at lw_m11 218 rfl
theorem q2692 : (Jvm.Cond.methodLink "FigureSurveyModel$Found" (51 : Nat) ({ cls := "java/util/ArrayList", name := "get", desc := "(I)Ljava/lang/Object;" } : Jvm.MethodName)) ∈ lw_all := lw_g (lw_at lw_m11 219 rfl) rfl
theorem q2693 : (Jvm.Cond.methodLink "FigureSurveyModel$Found" (55 : Nat) ({ cls := "FigureSurveyModel$Found", name := "place", desc := "(I)I" } : Jvm.MethodName)) ∈ lw_all := lw_g (lw_at lw_m11 220 rfl) rfl
theorem q2694 : (Jvm.Cond.instanceMethod ({ cls := "FigureSurveyModel$Found", name := "place", desc := "(I)I" } : Jvm.MethodName)) ∈ lw_all := lw_g (lw_at lw_m11 221 rfl) rfl
theorem q2695 : (Jvm.Cond.selects "FigureSurveyModel$Found" ({ cls := "FigureSurveyModel$Found", name := "place", desc := "(I)I" } : Jvm.MethodName) ({ cls := "FigureSurveyModel$Found", name := "place", desc := "(I)I" } : Jvm.MethodName)) ∈ lw_all := lw_g (lw_at lw_m11 222 rfl) rfl
theorem q2696 : (Jvm.Cond.code ({ cls := "FigureSurveyModel$Found", name := "place", desc := "(I)I" } : Jvm.MethodName) prog_19_method_2_code (3 : Nat) (Option.some Jvm.ClassFile.FieldType.int)) ∈ lw_all := lw_g (lw_at lw_m11 223 rfl) rfl
theorem q2697 : (Jvm.Cond.classLink "FigureSurveyModel$Found" (62 : Nat) "[[Z") ∈ lw_all := lw_g (lw_at lw_m11 224 rfl) rfl
theorem q2698 : (Jvm.Cond.methodLink "FigureSurveyModel$Found" (67 : Nat) ({ cls := "FigureSurveyModel$Found", name := "arrange", desc := "()V" } : Jvm.MethodName)) ∈ lw_all := lw_g (lw_at lw_m11 225 rfl) rfl
theorem q2699 : (Jvm.Cond.instanceMethod ({ cls := "FigureSurveyModel$Found", name := "arrange", desc := "()V" } : Jvm.MethodName)) ∈ lw_all := lw_g (lw_at lw_m11 226 rfl) rfl
theorem q2700 : (Jvm.Cond.selects "FigureSurveyModel$Found" ({ cls := "FigureSurveyModel$Found", name := "arrange", desc := "()V" } : Jvm.MethodName) ({ cls := "FigureSurveyModel$Found", name := "arrange", desc := "()V" } : Jvm.MethodName)) ∈ lw_all := lw_g (lw_at lw_m11 227 rfl) rfl
theorem q2701 : (Jvm.Cond.code ({ cls := "FigureSurveyModel$Found", name := "arrange", desc := "()V" } : Jvm.MethodName) prog_19_method_4_code (7 : Nat) (Option.none : Option Jvm.ClassFile.FieldType)) ∈ lw_all := lw_g (lw_at lw_m11 228 rfl) rfl
theorem q2702 : (Jvm.Cond.constant "FigureSurveyModel$Found" (78 : Nat) (2147483647 : Int32)) ∈ lw_all := lw_g (lw_at lw_m11 229 rfl) rfl
theorem q2703 : (Jvm.Cond.methodLink "FigureSurveyModel$Found" (79 : Nat) ({ cls := "FigureSurveyModel$Found", name := "cost", desc := "(II)I" } : Jvm.MethodName)) ∈ lw_all := lw_g (lw_at lw_m11 230 rfl) rfl
theorem q2704 : (Jvm.Cond.instanceMethod ({ cls := "FigureSurveyModel$Found", name := "cost", desc := "(II)I" } : Jvm.MethodName)) ∈ lw_all := lw_g (lw_at lw_m11 231 rfl) rfl
theorem q2705 : (Jvm.Cond.selects "FigureSurveyModel$Found" ({ cls := "FigureSurveyModel$Found", name := "cost", desc := "(II)I" } : Jvm.MethodName) ({ cls := "FigureSurveyModel$Found", name := "cost", desc := "(II)I" } : Jvm.MethodName)) ∈ lw_all := lw_g (lw_at lw_m11 232 rfl) rfl
theorem q2706 : (Jvm.Cond.code ({ cls := "FigureSurveyModel$Found", name := "cost", desc := "(II)I" } : Jvm.MethodName) prog_19_method_3_code (5 : Nat) (Option.some Jvm.ClassFile.FieldType.int)) ∈ lw_all := lw_g (lw_at lw_m11 233 rfl) rfl
theorem q2707 : (Jvm.Cond.methodLink "FigureSurveyModel$Found" (83 : Nat) ({ cls := "java/lang/Math", name := "min", desc := "(II)I" } : Jvm.MethodName)) ∈ lw_all := lw_g (lw_at lw_m11 234 rfl) rfl
theorem q2708 : (Jvm.Cond.methodLink "FigureSurveyModel$Found" (70 : Nat) ({ cls := "FigureSurveyModel$Found", name := "climb", desc := "()V" } : Jvm.MethodName)) ∈ lw_all := lw_g (lw_at lw_m11 235 rfl) rfl
theorem q2709 : (Jvm.Cond.instanceMethod ({ cls := "FigureSurveyModel$Found", name := "climb", desc := "()V" } : Jvm.MethodName)) ∈ lw_all := lw_g (lw_at lw_m11 236 rfl) rfl
theorem q2710 : (Jvm.Cond.selects "FigureSurveyModel$Found" ({ cls := "FigureSurveyModel$Found", name := "climb", desc := "()V" } : Jvm.MethodName) ({ cls := "FigureSurveyModel$Found", name := "climb", desc := "()V" } : Jvm.MethodName)) ∈ lw_all := lw_g (lw_at lw_m11 237 rfl) rfl
theorem q2711 : (Jvm.Cond.code ({ cls := "FigureSurveyModel$Found", name := "climb", desc := "()V" } : Jvm.MethodName) prog_19_method_5_code (6 : Nat) (Option.none : Option Jvm.ClassFile.FieldType)) ∈ lw_all := lw_g (lw_at lw_m11 238 rfl) rfl
theorem q2712 : (Jvm.Cond.methodLink "FigureSurveyModel$Found" (73 : Nat) ({ cls := "FigureSurveyModel$Found", name := "date", desc := "()V" } : Jvm.MethodName)) ∈ lw_all := lw_g (lw_at lw_m11 239 rfl) rfl
theorem q2713 : (Jvm.Cond.instanceMethod ({ cls := "FigureSurveyModel$Found", name := "date", desc := "()V" } : Jvm.MethodName)) ∈ lw_all := lw_g (lw_at lw_m12 0 rfl) rfl
theorem q2714 : (Jvm.Cond.selects "FigureSurveyModel$Found" ({ cls := "FigureSurveyModel$Found", name := "date", desc := "()V" } : Jvm.MethodName) ({ cls := "FigureSurveyModel$Found", name := "date", desc := "()V" } : Jvm.MethodName)) ∈ lw_all := lw_g (lw_at lw_m12 1 rfl) rfl
theorem q2715 : (Jvm.Cond.code ({ cls := "FigureSurveyModel$Found", name := "date", desc := "()V" } : Jvm.MethodName) prog_19_method_8_code (10 : Nat) (Option.none : Option Jvm.ClassFile.FieldType)) ∈ lw_all := lw_g (lw_at lw_m12 2 rfl) rfl
theorem q2716 : (Jvm.Cond.methodLink "FigureSurveyModel$Found" (100 : Nat) ({ cls := "FigureSurveyModel$Found", name := "clash", desc := "(II)Z" } : Jvm.MethodName)) ∈ lw_all := lw_g (lw_at lw_m12 3 rfl) rfl
theorem q2717 : (Jvm.Cond.instanceMethod ({ cls := "FigureSurveyModel$Found", name := "clash", desc := "(II)Z" } : Jvm.MethodName)) ∈ lw_all := lw_g (lw_at lw_m12 4 rfl) rfl
theorem q2718 : (Jvm.Cond.selects "FigureSurveyModel$Found" ({ cls := "FigureSurveyModel$Found", name := "clash", desc := "(II)Z" } : Jvm.MethodName) ({ cls := "FigureSurveyModel$Found", name := "clash", desc := "(II)Z" } : Jvm.MethodName)) ∈ lw_all := lw_g (lw_at lw_m12 5 rfl) rfl
theorem q2719 : (Jvm.Cond.code ({ cls := "FigureSurveyModel$Found", name := "clash", desc := "(II)Z" } : Jvm.MethodName) prog_19_method_7_code (5 : Nat) (Option.some Jvm.ClassFile.FieldType.boolean)) ∈ lw_all := lw_g (lw_at lw_m12 6 rfl) rfl
theorem q2720 : (Jvm.Cond.methodLink "FigureSurveyModel$Found" (97 : Nat) ({ cls := "FigureSurveyModel$Found", name := "bound", desc := "(I)I" } : Jvm.MethodName)) ∈ lw_all := lw_g (lw_at lw_m12 7 rfl) rfl
theorem q2721 : (Jvm.Cond.instanceMethod ({ cls := "FigureSurveyModel$Found", name := "bound", desc := "(I)I" } : Jvm.MethodName)) ∈ lw_all := lw_g (lw_at lw_m12 8 rfl) rfl
theorem q2722 : (Jvm.Cond.selects "FigureSurveyModel$Found" ({ cls := "FigureSurveyModel$Found", name := "bound", desc := "(I)I" } : Jvm.MethodName) ({ cls := "FigureSurveyModel$Found", name := "bound", desc := "(I)I" } : Jvm.MethodName)) ∈ lw_all := lw_g (lw_at lw_m12 9 rfl) rfl
theorem q2723 : (Jvm.Cond.code ({ cls := "FigureSurveyModel$Found", name := "bound", desc := "(I)I" } : Jvm.MethodName) prog_19_method_6_code (3 : Nat) (Option.some Jvm.ClassFile.FieldType.int)) ∈ lw_all := lw_g (lw_at lw_m12 10 rfl) rfl
theorem q2724 : (Jvm.Cond.fieldLink "FigureSurveyModel$Found" (48 : Nat) "FigureSurveyModel$Found" "genuine" "[I") ∈ lw_all := lw_g (lw_at lw_m12 11 rfl) rfl
theorem q2726 : (Jvm.Cond.fieldLink "FigureSurveyModel$Found" (88 : Nat) "FigureSurveyModel$Found" "order" "[I") ∈ lw_all := lw_g (lw_at lw_m12 13 rfl) rfl
theorem q2728 : (Jvm.Cond.fieldLink "FigureSurveyModel$Found" (17 : Nat) "FigureSurveyModel$Found" "overs" "[[I") ∈ lw_all := lw_g (lw_at lw_m12 15 rfl) rfl
theorem q2729 : (Jvm.Cond.fieldLink "FigureSurveyModel$Found" (58 : Nat) "FigureSurveyModel$Found" "many" "I") ∈ lw_all := lw_g (lw_at lw_m12 16 rfl) rfl
theorem q2730 : (Jvm.Cond.fieldLink "FigureSurveyModel$Found" (31 : Nat) "FigureSurveyModel$Found" "counts" "[Z") ∈ lw_all := lw_g (lw_at lw_m12 17 rfl) rfl
theorem q2732 : (Jvm.Cond.fieldLink "FigureSurveyModel$Found" (35 : Nat) "FigureSurveyModel$Found" "broken" "[Z") ∈ lw_all := lw_g (lw_at lw_m12 19 rfl) rfl
theorem q2734 : (Jvm.Cond.fieldLink "FigureSurveyModel$Found" (64 : Nat) "FigureSurveyModel$Found" "above" "[[Z") ∈ lw_all := lw_g (lw_at lw_m12 21 rfl) rfl
theorem q2736 : (Jvm.Cond.fieldLink "FigureSurveyModel$Found" (3 : Nat) "FigureSurveyModel$Found" "this$0" "LFigureSurveyModel;") ∈ lw_all := lw_g (lw_at lw_m12 23 rfl) rfl
theorem q2737 : (Jvm.Cond.lays "FigureSurveyModel$Found" "FigureSurveyModel$Found" "genuine" "[I") ∈ lw_all := lw_g (lw_at lw_m12 24 rfl) rfl
theorem q2738 : (Jvm.Cond.soleField "FigureSurveyModel$Found" "genuine") ∈ lw_all := lw_g (lw_at lw_m12 25 rfl) rfl
theorem q2739 : (Jvm.Cond.lays "FigureSurveyModel$Found" "FigureSurveyModel$Found" "order" "[I") ∈ lw_all := lw_g (lw_at lw_m12 26 rfl) rfl
theorem q2740 : (Jvm.Cond.soleField "FigureSurveyModel$Found" "order") ∈ lw_all := lw_g (lw_at lw_m12 27 rfl) rfl
theorem q2741 : (Jvm.Cond.lays "FigureSurveyModel$Found" "FigureSurveyModel$Found" "overs" "[[I") ∈ lw_all := lw_g (lw_at lw_m12 28 rfl) rfl
theorem q2742 : (Jvm.Cond.soleField "FigureSurveyModel$Found" "overs") ∈ lw_all := lw_g (lw_at lw_m12 29 rfl) rfl
theorem q2743 : (Jvm.Cond.lays "FigureSurveyModel$Found" "FigureSurveyModel$Found" "many" "I") ∈ lw_all := lw_g (lw_at lw_m12 30 rfl) rfl
theorem q2744 : (Jvm.Cond.soleField "FigureSurveyModel$Found" "many") ∈ lw_all := lw_g (lw_at lw_m12 31 rfl) rfl
theorem q2745 : (Jvm.Cond.laysFinal "FigureSurveyModel$Found" "FigureSurveyModel$Found" "counts" "[Z") ∈ lw_all := lw_g (lw_at lw_m12 32 rfl) rfl
theorem q2746 : (Jvm.Cond.soleField "FigureSurveyModel$Found" "counts") ∈ lw_all := lw_g (lw_at lw_m12 33 rfl) rfl
theorem q2747 : (Jvm.Cond.laysFinal "FigureSurveyModel$Found" "FigureSurveyModel$Found" "broken" "[Z") ∈ lw_all := lw_g (lw_at lw_m12 34 rfl) rfl
theorem q2748 : (Jvm.Cond.soleField "FigureSurveyModel$Found" "broken") ∈ lw_all := lw_g (lw_at lw_m12 35 rfl) rfl
theorem q2749 : (Jvm.Cond.laysFinal "FigureSurveyModel$Found" "FigureSurveyModel$Found" "above" "[[Z") ∈ lw_all := lw_g (lw_at lw_m12 36 rfl) rfl
theorem q2750 : (Jvm.Cond.soleField "FigureSurveyModel$Found" "above") ∈ lw_all := lw_g (lw_at lw_m12 37 rfl) rfl
theorem q2751 : (Jvm.Cond.laysFinal "FigureSurveyModel$Found" "FigureSurveyModel$Found" "this$0" "LFigureSurveyModel;") ∈ lw_all := lw_g (lw_at lw_m12 38 rfl) rfl
theorem q2752 : (Jvm.Cond.soleField "FigureSurveyModel$Found" "this$0") ∈ lw_all := lw_g (lw_at lw_m12 39 rfl) rfl
theorem q2753 : (Jvm.Cond.superclass "FigureSurveyModel$Found" "java/lang/Object") ∈ lw_all := lw_g (lw_at lw_m12 40 rfl) rfl
theorem q2784 : (Jvm.Cond.instanceMethod ({ cls := "FigureSurveyModel$Found", name := "reason", desc := "(IZ)I" } : Jvm.MethodName)) ∈ lw_all := lw_g (lw_at lw_m12 71 rfl) rfl
theorem q2785 : (Jvm.Cond.selects "FigureSurveyModel$Found" ({ cls := "FigureSurveyModel$Found", name := "reason", desc := "(IZ)I" } : Jvm.MethodName) ({ cls := "FigureSurveyModel$Found", name := "reason", desc := "(IZ)I" } : Jvm.MethodName)) ∈ lw_all := lw_g (lw_at lw_m12 72 rfl) rfl
theorem q2786 : (Jvm.Cond.code ({ cls := "FigureSurveyModel$Found", name := "reason", desc := "(IZ)I" } : Jvm.MethodName) prog_19_method_9_code (8 : Nat) (Option.some Jvm.ClassFile.FieldType.int)) ∈ lw_all := lw_g (lw_at lw_m12 73 rfl) rfl
theorem q2947 : (Jvm.Cond.castable "FigureSurveyModel$Found" "java/lang/Object") ∈ lw_tbl := lw_at lw_m12 234 rfl
theorem in_X10 : ∀ w ∈ wsX100, w ∈ lw_all := lw_in wsX100 [2737, 2739, 2741, 2743, 2745, 2747, 2749, 2751] (by decide +kernel) (by decide +kernel)
/-! FigureSurvey$Bound -/
set_option maxRecDepth 100000
def RX11 : String := "FigureSurvey$Bound"
def TX11 : u_T := fun k => match k with
  | 0 => ("FigureSurvey$Bound", "year", "I", true)
  | _ => ("FigureSurvey$Bound", "finding", "I", true)
def tyX11 : Nat → FieldType := fun k => match k with
  | 0 => .int
  | _ => .int
abbrev wsX110 : List Cond := u_ws RX11 TX11 2
theorem nmX11 : ∀ a, a < 2 → ∀ b, b < 2 → a ≠ b → (TX11 a).2.1 ≠ (TX11 b).2.1 := by decide +kernel
theorem tyX11_ok : ∀ k, k < 2 → parseFieldDescriptor (TX11 k).2.2.1 = some (tyX11 k) := by decide +kernel
abbrev cX11_compareTo : ByteArray := prog_2_method_3_code
def yX11_compareTo : MethodName := ⟨RX11, "compareTo", "(Ljava/lang/Object;)I"⟩
def dkwX11_compareTo_0 : List UInt8 := [42, 43, 192, 0, 8, 182, 0, 22, 172]
abbrev dktX11_compareTo_0 : List UInt8 := dkwX11_compareTo_0 ++ []
theorem dksX11_compareTo_0 : cX11_compareTo.data.toList.drop 0 = dktX11_compareTo_0 := by decide +kernel
theorem dX11_compareTo_0 : decode cX11_compareTo 0 = .ok (.aload_n 0, 1) := dk_42 (dk_at dksX11_compareTo_0 0 rfl rfl)
theorem dX11_compareTo_1 : decode cX11_compareTo 1 = .ok (.aload_n 1, 1) := dk_43 (dk_at dksX11_compareTo_0 1 rfl rfl)
theorem dX11_compareTo_2 : decode cX11_compareTo 2 = .ok (.checkcast 8, 3) := dk_192 0 8 (dk_at dksX11_compareTo_0 2 rfl rfl)
theorem dX11_compareTo_5 : decode cX11_compareTo 5 = .ok (.invokevirtual 22, 3) := dk_182 0 22 (dk_at dksX11_compareTo_0 5 rfl rfl)
theorem dX11_compareTo_8 : decode cX11_compareTo 8 = .ok (.ireturn, 1) := dk_172 (dk_at dksX11_compareTo_0 8 rfl rfl)
abbrev cX11_compareTo_2 : ByteArray := prog_2_method_2_code
def yX11_compareTo_2 : MethodName := ⟨RX11, "compareTo", "(LFigureSurvey$Bound;)I"⟩
def dkwX11_compareTo_2_1 : List UInt8 := [167, 0, 14, 42, 180, 0, 13, 43, 180, 0, 13, 184, 0, 16, 172]
abbrev dktX11_compareTo_2_1 : List UInt8 := dkwX11_compareTo_2_1 ++ []
def dkwX11_compareTo_2_0 : List UInt8 := [42, 180, 0, 7, 43, 180, 0, 7, 159, 0, 17, 42, 180, 0, 7, 43, 180, 0, 7, 184, 0, 16]
abbrev dktX11_compareTo_2_0 : List UInt8 := dkwX11_compareTo_2_0 ++ dktX11_compareTo_2_1
theorem dksX11_compareTo_2_0 : cX11_compareTo_2.data.toList.drop 0 = dktX11_compareTo_2_0 := by decide +kernel
theorem dksX11_compareTo_2_1 : cX11_compareTo_2.data.toList.drop 22 = dktX11_compareTo_2_1 := dk_seg dksX11_compareTo_2_0 22 rfl rfl
theorem dX11_compareTo_2_0 : decode cX11_compareTo_2 0 = .ok (.aload_n 0, 1) := dk_42 (dk_at dksX11_compareTo_2_0 0 rfl rfl)
theorem dX11_compareTo_2_1 : decode cX11_compareTo_2 1 = .ok (.getfield 7, 3) := dk_180 0 7 (dk_at dksX11_compareTo_2_0 1 rfl rfl)
theorem dX11_compareTo_2_4 : decode cX11_compareTo_2 4 = .ok (.aload_n 1, 1) := dk_43 (dk_at dksX11_compareTo_2_0 4 rfl rfl)
theorem dX11_compareTo_2_5 : decode cX11_compareTo_2 5 = .ok (.getfield 7, 3) := dk_180 0 7 (dk_at dksX11_compareTo_2_0 5 rfl rfl)
theorem dX11_compareTo_2_8 : decode cX11_compareTo_2 8 = .ok (.if_icmp .eq 17, 3) := dk_159 0 17 (dk_at dksX11_compareTo_2_0 8 rfl rfl)
theorem dX11_compareTo_2_11 : decode cX11_compareTo_2 11 = .ok (.aload_n 0, 1) := dk_42 (dk_at dksX11_compareTo_2_0 11 rfl rfl)
theorem dX11_compareTo_2_12 : decode cX11_compareTo_2 12 = .ok (.getfield 7, 3) := dk_180 0 7 (dk_at dksX11_compareTo_2_0 12 rfl rfl)
theorem dX11_compareTo_2_15 : decode cX11_compareTo_2 15 = .ok (.aload_n 1, 1) := dk_43 (dk_at dksX11_compareTo_2_0 15 rfl rfl)
theorem dX11_compareTo_2_16 : decode cX11_compareTo_2 16 = .ok (.getfield 7, 3) := dk_180 0 7 (dk_at dksX11_compareTo_2_0 16 rfl rfl)
theorem dX11_compareTo_2_19 : decode cX11_compareTo_2 19 = .ok (.invokestatic 16, 3) := dk_184 0 16 (dk_at dksX11_compareTo_2_0 19 rfl rfl)
theorem dX11_compareTo_2_22 : decode cX11_compareTo_2 22 = .ok (.goto 14, 3) := dk_167 0 14 (dk_at dksX11_compareTo_2_1 0 rfl rfl)
theorem dX11_compareTo_2_25 : decode cX11_compareTo_2 25 = .ok (.aload_n 0, 1) := dk_42 (dk_at dksX11_compareTo_2_1 3 rfl rfl)
theorem dX11_compareTo_2_26 : decode cX11_compareTo_2 26 = .ok (.getfield 13, 3) := dk_180 0 13 (dk_at dksX11_compareTo_2_1 4 rfl rfl)
theorem dX11_compareTo_2_29 : decode cX11_compareTo_2 29 = .ok (.aload_n 1, 1) := dk_43 (dk_at dksX11_compareTo_2_1 7 rfl rfl)
theorem dX11_compareTo_2_30 : decode cX11_compareTo_2 30 = .ok (.getfield 13, 3) := dk_180 0 13 (dk_at dksX11_compareTo_2_1 8 rfl rfl)
theorem dX11_compareTo_2_33 : decode cX11_compareTo_2 33 = .ok (.invokestatic 16, 3) := dk_184 0 16 (dk_at dksX11_compareTo_2_1 11 rfl rfl)
theorem dX11_compareTo_2_36 : decode cX11_compareTo_2 36 = .ok (.ireturn, 1) := dk_172 (dk_at dksX11_compareTo_2_1 14 rfl rfl)
abbrev cX11_init : ByteArray := prog_2_method_1_code
def yX11_init : MethodName := ⟨RX11, "<init>", "(II)V"⟩
def dkwX11_init_0 : List UInt8 := [42, 183, 0, 1, 42, 27, 181, 0, 7, 42, 28, 181, 0, 13, 177]
abbrev dktX11_init_0 : List UInt8 := dkwX11_init_0 ++ []
theorem dksX11_init_0 : cX11_init.data.toList.drop 0 = dktX11_init_0 := by decide +kernel
theorem dX11_init_0 : decode cX11_init 0 = .ok (.aload_n 0, 1) := dk_42 (dk_at dksX11_init_0 0 rfl rfl)
theorem dX11_init_1 : decode cX11_init 1 = .ok (.invokespecial 1, 3) := dk_183 0 1 (dk_at dksX11_init_0 1 rfl rfl)
theorem dX11_init_4 : decode cX11_init 4 = .ok (.aload_n 0, 1) := dk_42 (dk_at dksX11_init_0 4 rfl rfl)
theorem dX11_init_5 : decode cX11_init 5 = .ok (.iload_n 1, 1) := dk_27 (dk_at dksX11_init_0 5 rfl rfl)
theorem dX11_init_6 : decode cX11_init 6 = .ok (.putfield 7, 3) := dk_181 0 7 (dk_at dksX11_init_0 6 rfl rfl)
theorem dX11_init_9 : decode cX11_init 9 = .ok (.aload_n 0, 1) := dk_42 (dk_at dksX11_init_0 9 rfl rfl)
theorem dX11_init_10 : decode cX11_init 10 = .ok (.iload_n 2, 1) := dk_28 (dk_at dksX11_init_0 10 rfl rfl)
theorem dX11_init_11 : decode cX11_init 11 = .ok (.putfield 13, 3) := dk_181 0 13 (dk_at dksX11_init_0 11 rfl rfl)
theorem dX11_init_14 : decode cX11_init 14 = .ok (.return_, 1) := dk_177 (dk_at dksX11_init_0 14 rfl rfl)
theorem q123 : (Jvm.Cond.initialized "FigureSurvey$Bound") ∈ lw_all := lw_g (lw_at lw_m1 50 rfl) rfl
theorem q437 : (Jvm.Cond.selects "FigureSurvey$Bound" ({ cls := "java/lang/Object", name := "getClass", desc := "()Ljava/lang/Class;" } : Jvm.MethodName) ({ cls := "java/lang/Object", name := "getClass", desc := "()Ljava/lang/Class;" } : Jvm.MethodName)) ∈ lw_all := lw_g (lw_at lw_m2 124 rfl) rfl
theorem q610 : (Jvm.Cond.castable "FigureSurvey$Bound" "java/lang/Comparable") ∈ lw_tbl := lw_at lw_m3 57 rfl
theorem q611 : (Jvm.Cond.selects "FigureSurvey$Bound" ({ cls := "java/lang/Comparable", name := "compareTo", desc := "(Ljava/lang/Object;)I" } : Jvm.MethodName) ({ cls := "FigureSurvey$Bound", name := "compareTo", desc := "(Ljava/lang/Object;)I" } : Jvm.MethodName)) ∈ lw_all := lw_g (lw_at lw_m3 58 rfl) rfl
theorem q612 : (Jvm.Cond.unhidden "FigureSurvey$Bound" "compareTo" "(Ljava/lang/Object;)I") ∈ lw_tbl := lw_at lw_m3 59 rfl
theorem q613 : (Jvm.Cond.instanceMethod ({ cls := "FigureSurvey$Bound", name := "compareTo", desc := "(Ljava/lang/Object;)I" } : Jvm.MethodName)) ∈ lw_all := lw_g (lw_at lw_m3 60 rfl) rfl
theorem q614 : (Jvm.Cond.publicMethod ({ cls := "FigureSurvey$Bound", name := "compareTo", desc := "(Ljava/lang/Object;)I" } : Jvm.MethodName)) ∈ lw_tbl := lw_at lw_m3 61 rfl
theorem q615 : (Jvm.Cond.code ({ cls := "FigureSurvey$Bound", name := "compareTo", desc := "(Ljava/lang/Object;)I" } : Jvm.MethodName) prog_2_method_3_code (2 : Nat) (Option.some Jvm.ClassFile.FieldType.int)) ∈ lw_all := lw_g (lw_at lw_m3 62 rfl) rfl
theorem q616 : (Jvm.Cond.classLink "FigureSurvey$Bound" (8 : Nat) "FigureSurvey$Bound") ∈ lw_all := lw_g (lw_at lw_m3 63 rfl) rfl
theorem q617 : (Jvm.Cond.methodLink "FigureSurvey$Bound" (22 : Nat) ({ cls := "FigureSurvey$Bound", name := "compareTo", desc := "(LFigureSurvey$Bound;)I" } : Jvm.MethodName)) ∈ lw_all := lw_g (lw_at lw_m3 64 rfl) rfl
theorem q618 : (Jvm.Cond.instanceMethod ({ cls := "FigureSurvey$Bound", name := "compareTo", desc := "(LFigureSurvey$Bound;)I" } : Jvm.MethodName)) ∈ lw_all := lw_g (lw_at lw_m3 65 rfl) rfl
theorem q619 : (Jvm.Cond.selects "FigureSurvey$Bound" ({ cls := "FigureSurvey$Bound", name := "compareTo", desc := "(LFigureSurvey$Bound;)I" } : Jvm.MethodName) ({ cls := "FigureSurvey$Bound", name := "compareTo", desc := "(LFigureSurvey$Bound;)I" } : Jvm.MethodName)) ∈ lw_all := lw_g (lw_at lw_m3 66 rfl) rfl
theorem q620 : (Jvm.Cond.code ({ cls := "FigureSurvey$Bound", name := "compareTo", desc := "(LFigureSurvey$Bound;)I" } : Jvm.MethodName) prog_2_method_2_code (2 : Nat) (Option.some Jvm.ClassFile.FieldType.int)) ∈ lw_all := lw_g (lw_at lw_m3 67 rfl) rfl
theorem q621 : (Jvm.Cond.methodLink "FigureSurvey$Bound" (16 : Nat) ({ cls := "java/lang/Integer", name := "compare", desc := "(II)I" } : Jvm.MethodName)) ∈ lw_all := lw_g (lw_at lw_m3 68 rfl) rfl
theorem q1205 : (Jvm.Cond.selects "FigureSurvey$Bound" ({ cls := "java/lang/Object", name := "equals", desc := "(Ljava/lang/Object;)Z" } : Jvm.MethodName) ({ cls := "java/lang/Object", name := "equals", desc := "(Ljava/lang/Object;)Z" } : Jvm.MethodName)) ∈ lw_all := lw_g (lw_at lw_m5 172 rfl) rfl
theorem q1377 : (Jvm.Cond.instantiable "FigureSurvey$Bound" (2 : Nat)) ∈ lw_all := lw_g (lw_at lw_m6 104 rfl) rfl
theorem q1379 : (Jvm.Cond.instanceMethod ({ cls := "FigureSurvey$Bound", name := "<init>", desc := "(II)V" } : Jvm.MethodName)) ∈ lw_all := lw_g (lw_at lw_m6 106 rfl) rfl
theorem q1380 : (Jvm.Cond.code ({ cls := "FigureSurvey$Bound", name := "<init>", desc := "(II)V" } : Jvm.MethodName) prog_2_method_1_code (3 : Nat) (Option.none : Option Jvm.ClassFile.FieldType)) ∈ lw_all := lw_g (lw_at lw_m6 107 rfl) rfl
theorem q1381 : (Jvm.Cond.methodLink "FigureSurvey$Bound" (1 : Nat) ({ cls := "java/lang/Object", name := "<init>", desc := "()V" } : Jvm.MethodName)) ∈ lw_all := lw_g (lw_at lw_m6 108 rfl) rfl
theorem q1382 : (Jvm.Cond.fieldLink "FigureSurvey$Bound" (7 : Nat) "FigureSurvey$Bound" "year" "I") ∈ lw_all := lw_g (lw_at lw_m6 109 rfl) rfl
theorem q1384 : (Jvm.Cond.fieldLink "FigureSurvey$Bound" (13 : Nat) "FigureSurvey$Bound" "finding" "I") ∈ lw_all := lw_g (lw_at lw_m6 111 rfl) rfl
theorem q1386 : (Jvm.Cond.laysFinal "FigureSurvey$Bound" "FigureSurvey$Bound" "year" "I") ∈ lw_all := lw_g (lw_at lw_m6 113 rfl) rfl
theorem q1387 : (Jvm.Cond.soleField "FigureSurvey$Bound" "year") ∈ lw_all := lw_g (lw_at lw_m6 114 rfl) rfl
theorem q1388 : (Jvm.Cond.laysFinal "FigureSurvey$Bound" "FigureSurvey$Bound" "finding" "I") ∈ lw_all := lw_g (lw_at lw_m6 115 rfl) rfl
theorem q1389 : (Jvm.Cond.soleField "FigureSurvey$Bound" "finding") ∈ lw_all := lw_g (lw_at lw_m6 116 rfl) rfl
theorem q1390 : (Jvm.Cond.superclass "FigureSurvey$Bound" "java/lang/Object") ∈ lw_all := lw_g (lw_at lw_m6 117 rfl) rfl
theorem q2949 : (Jvm.Cond.castable "FigureSurvey$Bound" "java/lang/Object") ∈ lw_tbl := lw_at lw_m12 236 rfl
theorem in_X11 : ∀ w ∈ wsX110, w ∈ lw_all := lw_in wsX110 [1386, 1388] (by decide +kernel) (by decide +kernel)
/-! FigureSurvey$Entry -/
set_option maxRecDepth 100000
def RX12 : String := "FigureSurvey$Entry"
def TX12 : u_T := fun k => match k with
  | 0 => ("FigureSurvey$Entry", "panel", "LFigureSurvey$Panel;", true)
  | _ => ("FigureSurvey$Entry", "features", "I", true)
def tyX12 : Nat → FieldType := fun k => match k with
  | 0 => .object "FigureSurvey$Panel"
  | _ => .int
abbrev wsX120 : List Cond := u_ws RX12 TX12 2
theorem nmX12 : ∀ a, a < 2 → ∀ b, b < 2 → a ≠ b → (TX12 a).2.1 ≠ (TX12 b).2.1 := by decide +kernel
theorem tyX12_ok : ∀ k, k < 2 → parseFieldDescriptor (TX12 k).2.2.1 = some (tyX12 k) := by decide +kernel
abbrev cX12_init : ByteArray := prog_5_method_1_code
def yX12_init : MethodName := ⟨RX12, "<init>", "(LFigureSurvey$Panel;I)V"⟩
def dkwX12_init_0 : List UInt8 := [42, 183, 0, 1, 42, 43, 181, 0, 7, 42, 28, 181, 0, 13, 177]
abbrev dktX12_init_0 : List UInt8 := dkwX12_init_0 ++ []
theorem dksX12_init_0 : cX12_init.data.toList.drop 0 = dktX12_init_0 := by decide +kernel
theorem dX12_init_0 : decode cX12_init 0 = .ok (.aload_n 0, 1) := dk_42 (dk_at dksX12_init_0 0 rfl rfl)
theorem dX12_init_1 : decode cX12_init 1 = .ok (.invokespecial 1, 3) := dk_183 0 1 (dk_at dksX12_init_0 1 rfl rfl)
theorem dX12_init_4 : decode cX12_init 4 = .ok (.aload_n 0, 1) := dk_42 (dk_at dksX12_init_0 4 rfl rfl)
theorem dX12_init_5 : decode cX12_init 5 = .ok (.aload_n 1, 1) := dk_43 (dk_at dksX12_init_0 5 rfl rfl)
theorem dX12_init_6 : decode cX12_init 6 = .ok (.putfield 7, 3) := dk_181 0 7 (dk_at dksX12_init_0 6 rfl rfl)
theorem dX12_init_9 : decode cX12_init 9 = .ok (.aload_n 0, 1) := dk_42 (dk_at dksX12_init_0 9 rfl rfl)
theorem dX12_init_10 : decode cX12_init 10 = .ok (.iload_n 2, 1) := dk_28 (dk_at dksX12_init_0 10 rfl rfl)
theorem dX12_init_11 : decode cX12_init 11 = .ok (.putfield 13, 3) := dk_181 0 13 (dk_at dksX12_init_0 11 rfl rfl)
theorem dX12_init_14 : decode cX12_init 14 = .ok (.return_, 1) := dk_177 (dk_at dksX12_init_0 14 rfl rfl)
theorem q125 : (Jvm.Cond.initialized "FigureSurvey$Entry") ∈ lw_all := lw_g (lw_at lw_m1 52 rfl) rfl
theorem q439 : (Jvm.Cond.selects "FigureSurvey$Entry" ({ cls := "java/lang/Object", name := "getClass", desc := "()Ljava/lang/Class;" } : Jvm.MethodName) ({ cls := "java/lang/Object", name := "getClass", desc := "()Ljava/lang/Class;" } : Jvm.MethodName)) ∈ lw_all := lw_g (lw_at lw_m2 126 rfl) rfl
theorem q1207 : (Jvm.Cond.selects "FigureSurvey$Entry" ({ cls := "java/lang/Object", name := "equals", desc := "(Ljava/lang/Object;)Z" } : Jvm.MethodName) ({ cls := "java/lang/Object", name := "equals", desc := "(Ljava/lang/Object;)Z" } : Jvm.MethodName)) ∈ lw_all := lw_g (lw_at lw_m5 174 rfl) rfl
theorem q2222 : (Jvm.Cond.instantiable "FigureSurvey$Entry" (2 : Nat)) ∈ lw_all := lw_g (lw_at lw_m9 229 rfl) rfl
theorem q2224 : (Jvm.Cond.instanceMethod ({ cls := "FigureSurvey$Entry", name := "<init>", desc := "(LFigureSurvey$Panel;I)V" } : Jvm.MethodName)) ∈ lw_all := lw_g (lw_at lw_m9 231 rfl) rfl
theorem q2225 : (Jvm.Cond.code ({ cls := "FigureSurvey$Entry", name := "<init>", desc := "(LFigureSurvey$Panel;I)V" } : Jvm.MethodName) prog_5_method_1_code (3 : Nat) (Option.none : Option Jvm.ClassFile.FieldType)) ∈ lw_all := lw_g (lw_at lw_m9 232 rfl) rfl
theorem q2226 : (Jvm.Cond.methodLink "FigureSurvey$Entry" (1 : Nat) ({ cls := "java/lang/Object", name := "<init>", desc := "()V" } : Jvm.MethodName)) ∈ lw_all := lw_g (lw_at lw_m9 233 rfl) rfl
theorem q2227 : (Jvm.Cond.fieldLink "FigureSurvey$Entry" (7 : Nat) "FigureSurvey$Entry" "panel" "LFigureSurvey$Panel;") ∈ lw_all := lw_g (lw_at lw_m9 234 rfl) rfl
theorem q2229 : (Jvm.Cond.fieldLink "FigureSurvey$Entry" (13 : Nat) "FigureSurvey$Entry" "features" "I") ∈ lw_all := lw_g (lw_at lw_m9 236 rfl) rfl
theorem q2231 : (Jvm.Cond.laysFinal "FigureSurvey$Entry" "FigureSurvey$Entry" "panel" "LFigureSurvey$Panel;") ∈ lw_all := lw_g (lw_at lw_m9 238 rfl) rfl
theorem q2232 : (Jvm.Cond.soleField "FigureSurvey$Entry" "panel") ∈ lw_all := lw_g (lw_at lw_m9 239 rfl) rfl
theorem q2233 : (Jvm.Cond.laysFinal "FigureSurvey$Entry" "FigureSurvey$Entry" "features" "I") ∈ lw_all := lw_g (lw_at lw_m10 0 rfl) rfl
theorem q2234 : (Jvm.Cond.soleField "FigureSurvey$Entry" "features") ∈ lw_all := lw_g (lw_at lw_m10 1 rfl) rfl
theorem q2235 : (Jvm.Cond.superclass "FigureSurvey$Entry" "java/lang/Object") ∈ lw_all := lw_g (lw_at lw_m10 2 rfl) rfl
theorem q2951 : (Jvm.Cond.castable "FigureSurvey$Entry" "java/lang/Object") ∈ lw_tbl := lw_at lw_m12 238 rfl
theorem in_X12 : ∀ w ∈ wsX120, w ∈ lw_all := lw_in wsX120 [2231, 2233] (by decide +kernel) (by decide +kernel)
/-! FigureSurvey$Name -/
set_option maxRecDepth 100000
def RX13 : String := "FigureSurvey$Name"
def TX13 : u_T := fun k => match k with
  | 0 => ("FigureSurvey$Name", "name", "I", true)
  | 1 => ("FigureSurvey$Name", "kins", "I", true)
  | _ => ("FigureSurvey$Name", "seasons", "I", true)
def tyX13 : Nat → FieldType := fun k => match k with
  | 0 => .int
  | 1 => .int
  | _ => .int
abbrev wsX130 : List Cond := u_ws RX13 TX13 3
theorem nmX13 : ∀ a, a < 3 → ∀ b, b < 3 → a ≠ b → (TX13 a).2.1 ≠ (TX13 b).2.1 := by decide +kernel
theorem tyX13_ok : ∀ k, k < 3 → parseFieldDescriptor (TX13 k).2.2.1 = some (tyX13 k) := by decide +kernel
abbrev cX13_equals : ByteArray := prog_8_method_4_code
def yX13_equals : MethodName := ⟨RX13, "equals", "(Ljava/lang/Object;)Z"⟩
def dkwX13_equals_0 : List UInt8 := [42, 43, 186, 0, 27, 0, 0, 172]
abbrev dktX13_equals_0 : List UInt8 := dkwX13_equals_0 ++ []
theorem dksX13_equals_0 : cX13_equals.data.toList.drop 0 = dktX13_equals_0 := by decide +kernel
theorem dX13_equals_0 : decode cX13_equals 0 = .ok (.aload_n 0, 1) := dk_42 (dk_at dksX13_equals_0 0 rfl rfl)
theorem dX13_equals_1 : decode cX13_equals 1 = .ok (.aload_n 1, 1) := dk_43 (dk_at dksX13_equals_0 1 rfl rfl)
theorem dX13_equals_2 : decode cX13_equals 2 = .ok (.invokedynamic 27, 5) := by decide +kernel
theorem dX13_equals_7 : decode cX13_equals 7 = .ok (.ireturn, 1) := dk_172 (dk_at dksX13_equals_0 7 rfl rfl)
abbrev cX13_init : ByteArray := prog_8_method_1_code
def yX13_init : MethodName := ⟨RX13, "<init>", "(III)V"⟩
def dkwX13_init_0 : List UInt8 := [42, 183, 0, 1, 42, 27, 181, 0, 7, 42, 28, 181, 0, 13, 42, 29, 181, 0, 16, 177]
abbrev dktX13_init_0 : List UInt8 := dkwX13_init_0 ++ []
theorem dksX13_init_0 : cX13_init.data.toList.drop 0 = dktX13_init_0 := by decide +kernel
theorem dX13_init_0 : decode cX13_init 0 = .ok (.aload_n 0, 1) := dk_42 (dk_at dksX13_init_0 0 rfl rfl)
theorem dX13_init_1 : decode cX13_init 1 = .ok (.invokespecial 1, 3) := dk_183 0 1 (dk_at dksX13_init_0 1 rfl rfl)
theorem dX13_init_4 : decode cX13_init 4 = .ok (.aload_n 0, 1) := dk_42 (dk_at dksX13_init_0 4 rfl rfl)
theorem dX13_init_5 : decode cX13_init 5 = .ok (.iload_n 1, 1) := dk_27 (dk_at dksX13_init_0 5 rfl rfl)
theorem dX13_init_6 : decode cX13_init 6 = .ok (.putfield 7, 3) := dk_181 0 7 (dk_at dksX13_init_0 6 rfl rfl)
theorem dX13_init_9 : decode cX13_init 9 = .ok (.aload_n 0, 1) := dk_42 (dk_at dksX13_init_0 9 rfl rfl)
theorem dX13_init_10 : decode cX13_init 10 = .ok (.iload_n 2, 1) := dk_28 (dk_at dksX13_init_0 10 rfl rfl)
theorem dX13_init_11 : decode cX13_init 11 = .ok (.putfield 13, 3) := dk_181 0 13 (dk_at dksX13_init_0 11 rfl rfl)
theorem dX13_init_14 : decode cX13_init 14 = .ok (.aload_n 0, 1) := dk_42 (dk_at dksX13_init_0 14 rfl rfl)
theorem dX13_init_15 : decode cX13_init 15 = .ok (.iload_n 3, 1) := dk_29 (dk_at dksX13_init_0 15 rfl rfl)
theorem dX13_init_16 : decode cX13_init 16 = .ok (.putfield 16, 3) := dk_181 0 16 (dk_at dksX13_init_0 16 rfl rfl)
theorem dX13_init_19 : decode cX13_init 19 = .ok (.return_, 1) := dk_177 (dk_at dksX13_init_0 19 rfl rfl)
abbrev cX13_kins : ByteArray := prog_8_method_6_code
def yX13_kins : MethodName := ⟨RX13, "kins", "()I"⟩
theorem dX13_kins_0 : decode cX13_kins 0 = .ok (.aload_n 0, 1) := by decide +kernel
theorem dX13_kins_1 : decode cX13_kins 1 = .ok (.getfield 13, 3) := by decide +kernel
theorem dX13_kins_4 : decode cX13_kins 4 = .ok (.ireturn, 1) := by decide +kernel
abbrev cX13_seasons : ByteArray := prog_8_method_7_code
def yX13_seasons : MethodName := ⟨RX13, "seasons", "()I"⟩
theorem dX13_seasons_0 : decode cX13_seasons 0 = .ok (.aload_n 0, 1) := by decide +kernel
theorem dX13_seasons_1 : decode cX13_seasons 1 = .ok (.getfield 16, 3) := by decide +kernel
theorem dX13_seasons_4 : decode cX13_seasons 4 = .ok (.ireturn, 1) := by decide +kernel
abbrev cX13_name : ByteArray := prog_8_method_5_code
def yX13_name : MethodName := ⟨RX13, "name", "()I"⟩
theorem dX13_name_0 : decode cX13_name 0 = .ok (.aload_n 0, 1) := by decide +kernel
theorem dX13_name_1 : decode cX13_name 1 = .ok (.getfield 7, 3) := by decide +kernel
theorem dX13_name_4 : decode cX13_name 4 = .ok (.ireturn, 1) := by decide +kernel
theorem q127 : (Jvm.Cond.initialized "FigureSurvey$Name") ∈ lw_all := lw_g (lw_at lw_m1 54 rfl) rfl
theorem q442 : (Jvm.Cond.selects "FigureSurvey$Name" ({ cls := "java/lang/Object", name := "getClass", desc := "()Ljava/lang/Class;" } : Jvm.MethodName) ({ cls := "java/lang/Object", name := "getClass", desc := "()Ljava/lang/Class;" } : Jvm.MethodName)) ∈ lw_all := lw_g (lw_at lw_m2 129 rfl) rfl
theorem q1210 : (Jvm.Cond.selects "FigureSurvey$Name" ({ cls := "java/lang/Object", name := "equals", desc := "(Ljava/lang/Object;)Z" } : Jvm.MethodName) ({ cls := "FigureSurvey$Name", name := "equals", desc := "(Ljava/lang/Object;)Z" } : Jvm.MethodName)) ∈ lw_all := lw_g (lw_at lw_m5 177 rfl) rfl
theorem q1211 : (Jvm.Cond.instanceMethod ({ cls := "FigureSurvey$Name", name := "equals", desc := "(Ljava/lang/Object;)Z" } : Jvm.MethodName)) ∈ lw_all := lw_g (lw_at lw_m5 178 rfl) rfl
theorem q1212 : (Jvm.Cond.code ({ cls := "FigureSurvey$Name", name := "equals", desc := "(Ljava/lang/Object;)Z" } : Jvm.MethodName) prog_8_method_4_code (2 : Nat) (Option.some Jvm.ClassFile.FieldType.boolean)) ∈ lw_all := lw_g (lw_at lw_m5 179 rfl) rfl
theorem q2255 : (Jvm.Cond.instantiable "FigureSurvey$Name" (3 : Nat)) ∈ lw_all := lw_g (lw_at lw_m10 22 rfl) rfl
theorem q2257 : (Jvm.Cond.instanceMethod ({ cls := "FigureSurvey$Name", name := "<init>", desc := "(III)V" } : Jvm.MethodName)) ∈ lw_all := lw_g (lw_at lw_m10 24 rfl) rfl
theorem q2258 : (Jvm.Cond.code ({ cls := "FigureSurvey$Name", name := "<init>", desc := "(III)V" } : Jvm.MethodName) prog_8_method_1_code (4 : Nat) (Option.none : Option Jvm.ClassFile.FieldType)) ∈ lw_all := lw_g (lw_at lw_m10 25 rfl) rfl
theorem q2259 : (Jvm.Cond.methodLink "FigureSurvey$Name" (1 : Nat) ({ cls := "java/lang/Record", name := "<init>", desc := "()V" } : Jvm.MethodName)) ∈ lw_all := lw_g (lw_at lw_m10 26 rfl) rfl
theorem q2263 : (Jvm.Cond.fieldLink "FigureSurvey$Name" (7 : Nat) "FigureSurvey$Name" "name" "I") ∈ lw_all := lw_g (lw_at lw_m10 30 rfl) rfl
theorem q2264 : (Jvm.Cond.fieldLink "FigureSurvey$Name" (13 : Nat) "FigureSurvey$Name" "kins" "I") ∈ lw_all := lw_g (lw_at lw_m10 31 rfl) rfl
theorem q2265 : (Jvm.Cond.fieldLink "FigureSurvey$Name" (16 : Nat) "FigureSurvey$Name" "seasons" "I") ∈ lw_all := lw_g (lw_at lw_m10 32 rfl) rfl
theorem q2266 : (Jvm.Cond.laysFinal "FigureSurvey$Name" "FigureSurvey$Name" "name" "I") ∈ lw_all := lw_g (lw_at lw_m10 33 rfl) rfl
theorem q2267 : (Jvm.Cond.soleField "FigureSurvey$Name" "name") ∈ lw_all := lw_g (lw_at lw_m10 34 rfl) rfl
theorem q2268 : (Jvm.Cond.laysFinal "FigureSurvey$Name" "FigureSurvey$Name" "kins" "I") ∈ lw_all := lw_g (lw_at lw_m10 35 rfl) rfl
theorem q2269 : (Jvm.Cond.soleField "FigureSurvey$Name" "kins") ∈ lw_all := lw_g (lw_at lw_m10 36 rfl) rfl
theorem q2270 : (Jvm.Cond.laysFinal "FigureSurvey$Name" "FigureSurvey$Name" "seasons" "I") ∈ lw_all := lw_g (lw_at lw_m10 37 rfl) rfl
theorem q2271 : (Jvm.Cond.soleField "FigureSurvey$Name" "seasons") ∈ lw_all := lw_g (lw_at lw_m10 38 rfl) rfl
theorem q2272 : (Jvm.Cond.superclass "FigureSurvey$Name" "java/lang/Record") ∈ lw_all := lw_g (lw_at lw_m10 39 rfl) rfl
theorem q2281 : (Jvm.Cond.instanceMethod ({ cls := "FigureSurvey$Name", name := "kins", desc := "()I" } : Jvm.MethodName)) ∈ lw_all := lw_g (lw_at lw_m10 48 rfl) rfl
theorem q2282 : (Jvm.Cond.selects "FigureSurvey$Name" ({ cls := "FigureSurvey$Name", name := "kins", desc := "()I" } : Jvm.MethodName) ({ cls := "FigureSurvey$Name", name := "kins", desc := "()I" } : Jvm.MethodName)) ∈ lw_all := lw_g (lw_at lw_m10 49 rfl) rfl
theorem q2283 : (Jvm.Cond.code ({ cls := "FigureSurvey$Name", name := "kins", desc := "()I" } : Jvm.MethodName) prog_8_method_6_code (1 : Nat) (Option.some Jvm.ClassFile.FieldType.int)) ∈ lw_all := lw_g (lw_at lw_m10 50 rfl) rfl
theorem q2285 : (Jvm.Cond.instanceMethod ({ cls := "FigureSurvey$Name", name := "seasons", desc := "()I" } : Jvm.MethodName)) ∈ lw_all := lw_g (lw_at lw_m10 52 rfl) rfl
theorem q2286 : (Jvm.Cond.selects "FigureSurvey$Name" ({ cls := "FigureSurvey$Name", name := "seasons", desc := "()I" } : Jvm.MethodName) ({ cls := "FigureSurvey$Name", name := "seasons", desc := "()I" } : Jvm.MethodName)) ∈ lw_all := lw_g (lw_at lw_m10 53 rfl) rfl
theorem q2287 : (Jvm.Cond.code ({ cls := "FigureSurvey$Name", name := "seasons", desc := "()I" } : Jvm.MethodName) prog_8_method_7_code (1 : Nat) (Option.some Jvm.ClassFile.FieldType.int)) ∈ lw_all := lw_g (lw_at lw_m10 54 rfl) rfl
theorem q2289 : (Jvm.Cond.instanceMethod ({ cls := "FigureSurvey$Name", name := "name", desc := "()I" } : Jvm.MethodName)) ∈ lw_all := lw_g (lw_at lw_m10 56 rfl) rfl
theorem q2290 : (Jvm.Cond.selects "FigureSurvey$Name" ({ cls := "FigureSurvey$Name", name := "name", desc := "()I" } : Jvm.MethodName) ({ cls := "FigureSurvey$Name", name := "name", desc := "()I" } : Jvm.MethodName)) ∈ lw_all := lw_g (lw_at lw_m10 57 rfl) rfl
theorem q2291 : (Jvm.Cond.code ({ cls := "FigureSurvey$Name", name := "name", desc := "()I" } : Jvm.MethodName) prog_8_method_5_code (1 : Nat) (Option.some Jvm.ClassFile.FieldType.int)) ∈ lw_all := lw_g (lw_at lw_m10 58 rfl) rfl
theorem q2952 : (Jvm.Cond.castable "FigureSurvey$Name" "java/lang/Object") ∈ lw_tbl := lw_at lw_m12 239 rfl
theorem in_X13 : ∀ w ∈ wsX130, w ∈ lw_all := lw_in wsX130 [2266, 2268, 2270] (by decide +kernel) (by decide +kernel)
/-! FigureSurvey$Work -/
set_option maxRecDepth 100000
def RX14 : String := "FigureSurvey$Work"
def TX14 : u_T := fun k => match k with
  | 0 => ("FigureSurvey$Work", "panel", "LFigureSurvey$Panel;", true)
  | 1 => ("FigureSurvey$Work", "cost", "I", true)
  | 2 => ("FigureSurvey$Work", "takes", "I", true)
  | _ => ("FigureSurvey$Work", "isDone", "Z", false)
def tyX14 : Nat → FieldType := fun k => match k with
  | 0 => .object "FigureSurvey$Panel"
  | 1 => .int
  | 2 => .int
  | _ => .boolean
abbrev wsX140 : List Cond := u_ws RX14 TX14 4
theorem nmX14 : ∀ a, a < 4 → ∀ b, b < 4 → a ≠ b → (TX14 a).2.1 ≠ (TX14 b).2.1 := by decide +kernel
theorem tyX14_ok : ∀ k, k < 4 → parseFieldDescriptor (TX14 k).2.2.1 = some (tyX14 k) := by decide +kernel
abbrev cX14_init : ByteArray := prog_16_method_1_code
def yX14_init : MethodName := ⟨RX14, "<init>", "(LFigureSurvey$Panel;II)V"⟩
def dkwX14_init_0 : List UInt8 := [42, 183, 0, 1, 42, 43, 181, 0, 7, 42, 28, 181, 0, 13, 42, 29, 181, 0, 17, 177]
abbrev dktX14_init_0 : List UInt8 := dkwX14_init_0 ++ []
theorem dksX14_init_0 : cX14_init.data.toList.drop 0 = dktX14_init_0 := by decide +kernel
theorem dX14_init_0 : decode cX14_init 0 = .ok (.aload_n 0, 1) := dk_42 (dk_at dksX14_init_0 0 rfl rfl)
theorem dX14_init_1 : decode cX14_init 1 = .ok (.invokespecial 1, 3) := dk_183 0 1 (dk_at dksX14_init_0 1 rfl rfl)
theorem dX14_init_4 : decode cX14_init 4 = .ok (.aload_n 0, 1) := dk_42 (dk_at dksX14_init_0 4 rfl rfl)
theorem dX14_init_5 : decode cX14_init 5 = .ok (.aload_n 1, 1) := dk_43 (dk_at dksX14_init_0 5 rfl rfl)
theorem dX14_init_6 : decode cX14_init 6 = .ok (.putfield 7, 3) := dk_181 0 7 (dk_at dksX14_init_0 6 rfl rfl)
theorem dX14_init_9 : decode cX14_init 9 = .ok (.aload_n 0, 1) := dk_42 (dk_at dksX14_init_0 9 rfl rfl)
theorem dX14_init_10 : decode cX14_init 10 = .ok (.iload_n 2, 1) := dk_28 (dk_at dksX14_init_0 10 rfl rfl)
theorem dX14_init_11 : decode cX14_init 11 = .ok (.putfield 13, 3) := dk_181 0 13 (dk_at dksX14_init_0 11 rfl rfl)
theorem dX14_init_14 : decode cX14_init 14 = .ok (.aload_n 0, 1) := dk_42 (dk_at dksX14_init_0 14 rfl rfl)
theorem dX14_init_15 : decode cX14_init 15 = .ok (.iload_n 3, 1) := dk_29 (dk_at dksX14_init_0 15 rfl rfl)
theorem dX14_init_16 : decode cX14_init 16 = .ok (.putfield 17, 3) := dk_181 0 17 (dk_at dksX14_init_0 16 rfl rfl)
theorem dX14_init_19 : decode cX14_init 19 = .ok (.return_, 1) := dk_177 (dk_at dksX14_init_0 19 rfl rfl)
theorem q128 : (Jvm.Cond.initialized "FigureSurvey$Work") ∈ lw_all := lw_g (lw_at lw_m1 55 rfl) rfl
theorem q448 : (Jvm.Cond.selects "FigureSurvey$Work" ({ cls := "java/lang/Object", name := "getClass", desc := "()Ljava/lang/Class;" } : Jvm.MethodName) ({ cls := "java/lang/Object", name := "getClass", desc := "()Ljava/lang/Class;" } : Jvm.MethodName)) ∈ lw_all := lw_g (lw_at lw_m2 135 rfl) rfl
theorem q1218 : (Jvm.Cond.selects "FigureSurvey$Work" ({ cls := "java/lang/Object", name := "equals", desc := "(Ljava/lang/Object;)Z" } : Jvm.MethodName) ({ cls := "java/lang/Object", name := "equals", desc := "(Ljava/lang/Object;)Z" } : Jvm.MethodName)) ∈ lw_all := lw_g (lw_at lw_m5 185 rfl) rfl
theorem q2341 : (Jvm.Cond.instantiable "FigureSurvey$Work" (4 : Nat)) ∈ lw_all := lw_g (lw_at lw_m10 108 rfl) rfl
theorem q2343 : (Jvm.Cond.instanceMethod ({ cls := "FigureSurvey$Work", name := "<init>", desc := "(LFigureSurvey$Panel;II)V" } : Jvm.MethodName)) ∈ lw_all := lw_g (lw_at lw_m10 110 rfl) rfl
theorem q2344 : (Jvm.Cond.code ({ cls := "FigureSurvey$Work", name := "<init>", desc := "(LFigureSurvey$Panel;II)V" } : Jvm.MethodName) prog_16_method_1_code (4 : Nat) (Option.none : Option Jvm.ClassFile.FieldType)) ∈ lw_all := lw_g (lw_at lw_m10 111 rfl) rfl
theorem q2345 : (Jvm.Cond.methodLink "FigureSurvey$Work" (1 : Nat) ({ cls := "java/lang/Object", name := "<init>", desc := "()V" } : Jvm.MethodName)) ∈ lw_all := lw_g (lw_at lw_m10 112 rfl) rfl
theorem q2346 : (Jvm.Cond.fieldLink "FigureSurvey$Work" (7 : Nat) "FigureSurvey$Work" "panel" "LFigureSurvey$Panel;") ∈ lw_all := lw_g (lw_at lw_m10 113 rfl) rfl
theorem q2348 : (Jvm.Cond.fieldLink "FigureSurvey$Work" (13 : Nat) "FigureSurvey$Work" "cost" "I") ∈ lw_all := lw_g (lw_at lw_m10 115 rfl) rfl
theorem q2350 : (Jvm.Cond.fieldLink "FigureSurvey$Work" (17 : Nat) "FigureSurvey$Work" "takes" "I") ∈ lw_all := lw_g (lw_at lw_m10 117 rfl) rfl
theorem q2353 : (Jvm.Cond.laysFinal "FigureSurvey$Work" "FigureSurvey$Work" "panel" "LFigureSurvey$Panel;") ∈ lw_all := lw_g (lw_at lw_m10 120 rfl) rfl
theorem q2354 : (Jvm.Cond.soleField "FigureSurvey$Work" "panel") ∈ lw_all := lw_g (lw_at lw_m10 121 rfl) rfl
theorem q2355 : (Jvm.Cond.laysFinal "FigureSurvey$Work" "FigureSurvey$Work" "cost" "I") ∈ lw_all := lw_g (lw_at lw_m10 122 rfl) rfl
theorem q2356 : (Jvm.Cond.soleField "FigureSurvey$Work" "cost") ∈ lw_all := lw_g (lw_at lw_m10 123 rfl) rfl
theorem q2357 : (Jvm.Cond.laysFinal "FigureSurvey$Work" "FigureSurvey$Work" "takes" "I") ∈ lw_all := lw_g (lw_at lw_m10 124 rfl) rfl
theorem q2358 : (Jvm.Cond.soleField "FigureSurvey$Work" "takes") ∈ lw_all := lw_g (lw_at lw_m10 125 rfl) rfl
theorem q2359 : (Jvm.Cond.lays "FigureSurvey$Work" "FigureSurvey$Work" "isDone" "Z") ∈ lw_all := lw_g (lw_at lw_m10 126 rfl) rfl
theorem q2360 : (Jvm.Cond.soleField "FigureSurvey$Work" "isDone") ∈ lw_all := lw_g (lw_at lw_m10 127 rfl) rfl
theorem q2361 : (Jvm.Cond.superclass "FigureSurvey$Work" "java/lang/Object") ∈ lw_all := lw_g (lw_at lw_m10 128 rfl) rfl
theorem q2953 : (Jvm.Cond.castable "FigureSurvey$Work" "java/lang/Object") ∈ lw_tbl := lw_at lw_m13 0 rfl
theorem in_X14 : ∀ w ∈ wsX140, w ∈ lw_all := lw_in wsX140 [2353, 2355, 2357, 2359] (by decide +kernel) (by decide +kernel)
/-! FigureSurvey$ByNeed -/
set_option maxRecDepth 100000
def RX15 : String := "FigureSurvey$ByNeed"
def TX15 : u_T := fun k => match k with
  | _ => ("FigureSurvey$ByNeed", "this$0", "LFigureSurvey;", true)
def tyX15 : Nat → FieldType := fun k => match k with
  | _ => .object "FigureSurvey"
abbrev wsX150 : List Cond := u_ws RX15 TX15 1
theorem nmX15 : ∀ a, a < 1 → ∀ b, b < 1 → a ≠ b → (TX15 a).2.1 ≠ (TX15 b).2.1 := by decide +kernel
theorem tyX15_ok : ∀ k, k < 1 → parseFieldDescriptor (TX15 k).2.2.1 = some (tyX15 k) := by decide +kernel
abbrev cX15_init : ByteArray := prog_3_method_1_code
def yX15_init : MethodName := ⟨RX15, "<init>", "(LFigureSurvey;)V"⟩
def dkwX15_init_0 : List UInt8 := [42, 43, 181, 0, 1, 42, 183, 0, 7, 177]
abbrev dktX15_init_0 : List UInt8 := dkwX15_init_0 ++ []
theorem dksX15_init_0 : cX15_init.data.toList.drop 0 = dktX15_init_0 := by decide +kernel
theorem dX15_init_0 : decode cX15_init 0 = .ok (.aload_n 0, 1) := dk_42 (dk_at dksX15_init_0 0 rfl rfl)
theorem dX15_init_1 : decode cX15_init 1 = .ok (.aload_n 1, 1) := dk_43 (dk_at dksX15_init_0 1 rfl rfl)
theorem dX15_init_2 : decode cX15_init 2 = .ok (.putfield 1, 3) := dk_181 0 1 (dk_at dksX15_init_0 2 rfl rfl)
theorem dX15_init_5 : decode cX15_init 5 = .ok (.aload_n 0, 1) := dk_42 (dk_at dksX15_init_0 5 rfl rfl)
theorem dX15_init_6 : decode cX15_init 6 = .ok (.invokespecial 7, 3) := dk_183 0 7 (dk_at dksX15_init_0 6 rfl rfl)
theorem dX15_init_9 : decode cX15_init 9 = .ok (.return_, 1) := dk_177 (dk_at dksX15_init_0 9 rfl rfl)
abbrev cX15_compare : ByteArray := prog_3_method_3_code
def yX15_compare : MethodName := ⟨RX15, "compare", "(Ljava/lang/Object;Ljava/lang/Object;)I"⟩
def dkwX15_compare_0 : List UInt8 := [42, 43, 192, 0, 14, 44, 192, 0, 14, 182, 0, 34, 172]
abbrev dktX15_compare_0 : List UInt8 := dkwX15_compare_0 ++ []
theorem dksX15_compare_0 : cX15_compare.data.toList.drop 0 = dktX15_compare_0 := by decide +kernel
theorem dX15_compare_0 : decode cX15_compare 0 = .ok (.aload_n 0, 1) := dk_42 (dk_at dksX15_compare_0 0 rfl rfl)
theorem dX15_compare_1 : decode cX15_compare 1 = .ok (.aload_n 1, 1) := dk_43 (dk_at dksX15_compare_0 1 rfl rfl)
theorem dX15_compare_2 : decode cX15_compare 2 = .ok (.checkcast 14, 3) := dk_192 0 14 (dk_at dksX15_compare_0 2 rfl rfl)
theorem dX15_compare_5 : decode cX15_compare 5 = .ok (.aload_n 2, 1) := dk_44 (dk_at dksX15_compare_0 5 rfl rfl)
theorem dX15_compare_6 : decode cX15_compare 6 = .ok (.checkcast 14, 3) := dk_192 0 14 (dk_at dksX15_compare_0 6 rfl rfl)
theorem dX15_compare_9 : decode cX15_compare 9 = .ok (.invokevirtual 34, 3) := dk_182 0 34 (dk_at dksX15_compare_0 9 rfl rfl)
theorem dX15_compare_12 : decode cX15_compare 12 = .ok (.ireturn, 1) := dk_172 (dk_at dksX15_compare_0 12 rfl rfl)
abbrev cX15_compare_2 : ByteArray := prog_3_method_2_code
def yX15_compare_2 : MethodName := ⟨RX15, "compare", "(LFigureSurvey$Panel;LFigureSurvey$Panel;)I"⟩
def dkwX15_compare_2_2 : List UInt8 := [167, 0, 14, 43, 180, 0, 31, 44, 180, 0, 31, 184, 0, 19, 172]
abbrev dktX15_compare_2_2 : List UInt8 := dkwX15_compare_2_2 ++ []
def dkwX15_compare_2_1 : List UInt8 := [180, 0, 1, 44, 182, 0, 25, 42, 180, 0, 1, 43, 182, 0, 25, 184, 0, 19, 62, 29, 153, 0, 7, 29]
abbrev dktX15_compare_2_1 : List UInt8 := dkwX15_compare_2_1 ++ dktX15_compare_2_2
def dkwX15_compare_2_0 : List UInt8 := [43, 180, 0, 13, 44, 180, 0, 13, 159, 0, 15, 43, 180, 0, 13, 44, 180, 0, 13, 184, 0, 19, 172, 42]
abbrev dktX15_compare_2_0 : List UInt8 := dkwX15_compare_2_0 ++ dktX15_compare_2_1
theorem dksX15_compare_2_0 : cX15_compare_2.data.toList.drop 0 = dktX15_compare_2_0 := by decide +kernel
theorem dksX15_compare_2_1 : cX15_compare_2.data.toList.drop 24 = dktX15_compare_2_1 := dk_seg dksX15_compare_2_0 24 rfl rfl
theorem dksX15_compare_2_2 : cX15_compare_2.data.toList.drop 48 = dktX15_compare_2_2 := dk_seg dksX15_compare_2_1 24 rfl rfl
theorem dX15_compare_2_0 : decode cX15_compare_2 0 = .ok (.aload_n 1, 1) := dk_43 (dk_at dksX15_compare_2_0 0 rfl rfl)
theorem dX15_compare_2_1 : decode cX15_compare_2 1 = .ok (.getfield 13, 3) := dk_180 0 13 (dk_at dksX15_compare_2_0 1 rfl rfl)
theorem dX15_compare_2_4 : decode cX15_compare_2 4 = .ok (.aload_n 2, 1) := dk_44 (dk_at dksX15_compare_2_0 4 rfl rfl)
theorem dX15_compare_2_5 : decode cX15_compare_2 5 = .ok (.getfield 13, 3) := dk_180 0 13 (dk_at dksX15_compare_2_0 5 rfl rfl)
theorem dX15_compare_2_8 : decode cX15_compare_2 8 = .ok (.if_icmp .eq 15, 3) := dk_159 0 15 (dk_at dksX15_compare_2_0 8 rfl rfl)
theorem dX15_compare_2_11 : decode cX15_compare_2 11 = .ok (.aload_n 1, 1) := dk_43 (dk_at dksX15_compare_2_0 11 rfl rfl)
theorem dX15_compare_2_12 : decode cX15_compare_2 12 = .ok (.getfield 13, 3) := dk_180 0 13 (dk_at dksX15_compare_2_0 12 rfl rfl)
theorem dX15_compare_2_15 : decode cX15_compare_2 15 = .ok (.aload_n 2, 1) := dk_44 (dk_at dksX15_compare_2_0 15 rfl rfl)
theorem dX15_compare_2_16 : decode cX15_compare_2 16 = .ok (.getfield 13, 3) := dk_180 0 13 (dk_at dksX15_compare_2_0 16 rfl rfl)
theorem dX15_compare_2_19 : decode cX15_compare_2 19 = .ok (.invokestatic 19, 3) := dk_184 0 19 (dk_at dksX15_compare_2_0 19 rfl rfl)
theorem dX15_compare_2_22 : decode cX15_compare_2 22 = .ok (.ireturn, 1) := dk_172 (dk_at dksX15_compare_2_0 22 rfl rfl)
theorem dX15_compare_2_23 : decode cX15_compare_2 23 = .ok (.aload_n 0, 1) := dk_42 (dk_at dksX15_compare_2_0 23 rfl rfl)
theorem dX15_compare_2_24 : decode cX15_compare_2 24 = .ok (.getfield 1, 3) := dk_180 0 1 (dk_at dksX15_compare_2_1 0 rfl rfl)
theorem dX15_compare_2_27 : decode cX15_compare_2 27 = .ok (.aload_n 2, 1) := dk_44 (dk_at dksX15_compare_2_1 3 rfl rfl)
theorem dX15_compare_2_28 : decode cX15_compare_2 28 = .ok (.invokevirtual 25, 3) := dk_182 0 25 (dk_at dksX15_compare_2_1 4 rfl rfl)
theorem dX15_compare_2_31 : decode cX15_compare_2 31 = .ok (.aload_n 0, 1) := dk_42 (dk_at dksX15_compare_2_1 7 rfl rfl)
theorem dX15_compare_2_32 : decode cX15_compare_2 32 = .ok (.getfield 1, 3) := dk_180 0 1 (dk_at dksX15_compare_2_1 8 rfl rfl)
theorem dX15_compare_2_35 : decode cX15_compare_2 35 = .ok (.aload_n 1, 1) := dk_43 (dk_at dksX15_compare_2_1 11 rfl rfl)
theorem dX15_compare_2_36 : decode cX15_compare_2 36 = .ok (.invokevirtual 25, 3) := dk_182 0 25 (dk_at dksX15_compare_2_1 12 rfl rfl)
theorem dX15_compare_2_39 : decode cX15_compare_2 39 = .ok (.invokestatic 19, 3) := dk_184 0 19 (dk_at dksX15_compare_2_1 15 rfl rfl)
theorem dX15_compare_2_42 : decode cX15_compare_2 42 = .ok (.istore_n 3, 1) := dk_62 (dk_at dksX15_compare_2_1 18 rfl rfl)
theorem dX15_compare_2_43 : decode cX15_compare_2 43 = .ok (.iload_n 3, 1) := dk_29 (dk_at dksX15_compare_2_1 19 rfl rfl)
theorem dX15_compare_2_44 : decode cX15_compare_2 44 = .ok (.ifCond .eq 7, 3) := dk_153 0 7 (dk_at dksX15_compare_2_1 20 rfl rfl)
theorem dX15_compare_2_47 : decode cX15_compare_2 47 = .ok (.iload_n 3, 1) := dk_29 (dk_at dksX15_compare_2_1 23 rfl rfl)
theorem dX15_compare_2_48 : decode cX15_compare_2 48 = .ok (.goto 14, 3) := dk_167 0 14 (dk_at dksX15_compare_2_2 0 rfl rfl)
theorem dX15_compare_2_51 : decode cX15_compare_2 51 = .ok (.aload_n 1, 1) := dk_43 (dk_at dksX15_compare_2_2 3 rfl rfl)
theorem dX15_compare_2_52 : decode cX15_compare_2 52 = .ok (.getfield 31, 3) := dk_180 0 31 (dk_at dksX15_compare_2_2 4 rfl rfl)
theorem dX15_compare_2_55 : decode cX15_compare_2 55 = .ok (.aload_n 2, 1) := dk_44 (dk_at dksX15_compare_2_2 7 rfl rfl)
theorem dX15_compare_2_56 : decode cX15_compare_2 56 = .ok (.getfield 31, 3) := dk_180 0 31 (dk_at dksX15_compare_2_2 8 rfl rfl)
theorem dX15_compare_2_59 : decode cX15_compare_2 59 = .ok (.invokestatic 19, 3) := dk_184 0 19 (dk_at dksX15_compare_2_2 11 rfl rfl)
theorem dX15_compare_2_62 : decode cX15_compare_2 62 = .ok (.ireturn, 1) := dk_172 (dk_at dksX15_compare_2_2 14 rfl rfl)
theorem q131 : (Jvm.Cond.initialized "FigureSurvey$ByNeed") ∈ lw_all := lw_g (lw_at lw_m1 58 rfl) rfl
theorem q273 : (Jvm.Cond.instantiable "FigureSurvey$ByNeed" (1 : Nat)) ∈ lw_all := lw_g (lw_at lw_m1 200 rfl) rfl
theorem q275 : (Jvm.Cond.instanceMethod ({ cls := "FigureSurvey$ByNeed", name := "<init>", desc := "(LFigureSurvey;)V" } : Jvm.MethodName)) ∈ lw_all := lw_g (lw_at lw_m1 202 rfl) rfl
theorem q276 : (Jvm.Cond.code ({ cls := "FigureSurvey$ByNeed", name := "<init>", desc := "(LFigureSurvey;)V" } : Jvm.MethodName) prog_3_method_1_code (2 : Nat) (Option.none : Option Jvm.ClassFile.FieldType)) ∈ lw_all := lw_g (lw_at lw_m1 203 rfl) rfl
theorem q277 : (Jvm.Cond.methodLink "FigureSurvey$ByNeed" (7 : Nat) ({ cls := "java/lang/Object", name := "<init>", desc := "()V" } : Jvm.MethodName)) ∈ lw_all := lw_g (lw_at lw_m1 204 rfl) rfl
theorem q278 : (Jvm.Cond.fieldLink "FigureSurvey$ByNeed" (1 : Nat) "FigureSurvey$ByNeed" "this$0" "LFigureSurvey;") ∈ lw_all := lw_g (lw_at lw_m1 205 rfl) rfl
theorem q279 : (Jvm.Cond.laysFinal "FigureSurvey$ByNeed" "FigureSurvey$ByNeed" "this$0" "LFigureSurvey;") ∈ lw_all := lw_g (lw_at lw_m1 206 rfl) rfl
theorem q280 : (Jvm.Cond.soleField "FigureSurvey$ByNeed" "this$0") ∈ lw_all := lw_g (lw_at lw_m1 207 rfl) rfl
theorem q281 : (Jvm.Cond.superclass "FigureSurvey$ByNeed" "java/lang/Object") ∈ lw_all := lw_g (lw_at lw_m1 208 rfl) rfl
theorem q438 : (Jvm.Cond.selects "FigureSurvey$ByNeed" ({ cls := "java/lang/Object", name := "getClass", desc := "()Ljava/lang/Class;" } : Jvm.MethodName) ({ cls := "java/lang/Object", name := "getClass", desc := "()Ljava/lang/Class;" } : Jvm.MethodName)) ∈ lw_all := lw_g (lw_at lw_m2 125 rfl) rfl
theorem q493 : (Jvm.Cond.castable "FigureSurvey$ByNeed" "java/util/Comparator") ∈ lw_tbl := lw_at lw_m2 180 rfl
theorem q494 : (Jvm.Cond.selects "FigureSurvey$ByNeed" ({ cls := "java/util/Comparator", name := "compare", desc := "(Ljava/lang/Object;Ljava/lang/Object;)I" } : Jvm.MethodName) ({ cls := "FigureSurvey$ByNeed", name := "compare", desc := "(Ljava/lang/Object;Ljava/lang/Object;)I" } : Jvm.MethodName)) ∈ lw_all := lw_g (lw_at lw_m2 181 rfl) rfl
theorem q495 : (Jvm.Cond.unhidden "FigureSurvey$ByNeed" "compare" "(Ljava/lang/Object;Ljava/lang/Object;)I") ∈ lw_tbl := lw_at lw_m2 182 rfl
theorem q496 : (Jvm.Cond.instanceMethod ({ cls := "FigureSurvey$ByNeed", name := "compare", desc := "(Ljava/lang/Object;Ljava/lang/Object;)I" } : Jvm.MethodName)) ∈ lw_all := lw_g (lw_at lw_m2 183 rfl) rfl
theorem q497 : (Jvm.Cond.publicMethod ({ cls := "FigureSurvey$ByNeed", name := "compare", desc := "(Ljava/lang/Object;Ljava/lang/Object;)I" } : Jvm.MethodName)) ∈ lw_tbl := lw_at lw_m2 184 rfl
theorem q498 : (Jvm.Cond.code ({ cls := "FigureSurvey$ByNeed", name := "compare", desc := "(Ljava/lang/Object;Ljava/lang/Object;)I" } : Jvm.MethodName) prog_3_method_3_code (3 : Nat) (Option.some Jvm.ClassFile.FieldType.int)) ∈ lw_all := lw_g (lw_at lw_m2 185 rfl) rfl
theorem q499 : (Jvm.Cond.classLink "FigureSurvey$ByNeed" (14 : Nat) "FigureSurvey$Panel") ∈ lw_all := lw_g (lw_at lw_m2 186 rfl) rfl
theorem q500 : (Jvm.Cond.methodLink "FigureSurvey$ByNeed" (34 : Nat) ({ cls := "FigureSurvey$ByNeed", name := "compare", desc := "(LFigureSurvey$Panel;LFigureSurvey$Panel;)I" } : Jvm.MethodName)) ∈ lw_all := lw_g (lw_at lw_m2 187 rfl) rfl
theorem q501 : (Jvm.Cond.instanceMethod ({ cls := "FigureSurvey$ByNeed", name := "compare", desc := "(LFigureSurvey$Panel;LFigureSurvey$Panel;)I" } : Jvm.MethodName)) ∈ lw_all := lw_g (lw_at lw_m2 188 rfl) rfl
theorem q502 : (Jvm.Cond.selects "FigureSurvey$ByNeed" ({ cls := "FigureSurvey$ByNeed", name := "compare", desc := "(LFigureSurvey$Panel;LFigureSurvey$Panel;)I" } : Jvm.MethodName) ({ cls := "FigureSurvey$ByNeed", name := "compare", desc := "(LFigureSurvey$Panel;LFigureSurvey$Panel;)I" } : Jvm.MethodName)) ∈ lw_all := lw_g (lw_at lw_m2 189 rfl) rfl
theorem q503 : (Jvm.Cond.code ({ cls := "FigureSurvey$ByNeed", name := "compare", desc := "(LFigureSurvey$Panel;LFigureSurvey$Panel;)I" } : Jvm.MethodName) prog_3_method_2_code (4 : Nat) (Option.some Jvm.ClassFile.FieldType.int)) ∈ lw_all := lw_g (lw_at lw_m2 190 rfl) rfl
theorem q504 : (Jvm.Cond.methodLink "FigureSurvey$ByNeed" (19 : Nat) ({ cls := "java/lang/Integer", name := "compare", desc := "(II)I" } : Jvm.MethodName)) ∈ lw_all := lw_g (lw_at lw_m2 191 rfl) rfl
theorem q507 : (Jvm.Cond.methodLinkNest "FigureSurvey$ByNeed" (25 : Nat) ({ cls := "FigureSurvey", name := "genuineOn", desc := "(LFigureSurvey$Panel;)I" } : Jvm.MethodName) "FigureSurvey") ∈ lw_tbl := lw_at lw_m2 194 rfl
theorem q1206 : (Jvm.Cond.selects "FigureSurvey$ByNeed" ({ cls := "java/lang/Object", name := "equals", desc := "(Ljava/lang/Object;)Z" } : Jvm.MethodName) ({ cls := "java/lang/Object", name := "equals", desc := "(Ljava/lang/Object;)Z" } : Jvm.MethodName)) ∈ lw_all := lw_g (lw_at lw_m5 173 rfl) rfl
theorem q1621 : (Jvm.Cond.fieldLink "FigureSurvey$ByNeed" (31 : Nat) "FigureSurvey$Panel" "number" "I") ∈ lw_all := lw_g (lw_at lw_m7 108 rfl) rfl
theorem q1624 : (Jvm.Cond.fieldLink "FigureSurvey$ByNeed" (13 : Nat) "FigureSurvey$Panel" "height" "I") ∈ lw_all := lw_g (lw_at lw_m7 111 rfl) rfl
theorem q2955 : (Jvm.Cond.castable "FigureSurvey$ByNeed" "java/lang/Object") ∈ lw_tbl := lw_at lw_m13 2 rfl
theorem in_X15 : ∀ w ∈ wsX150, w ∈ lw_all := lw_in wsX150 [279] (by decide +kernel) (by decide +kernel)
