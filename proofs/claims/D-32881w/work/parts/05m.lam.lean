/-! ===== lambdas: the class that the library writes ===== -/
set_option maxRecDepth 100000
def lD (σ : Lambda.Shape) (own : String) : ClassFile := (σ.file own).getD { minorVersion := 0, majorVersion := 0, constantPool := #[], accessFlags := 0, thisClass := 0, superClass := 0, interfaces := #[], fields := #[], methods := #[], attributes := #[] }
def lFwd (σ : Lambda.Shape) (own : String) : Method := ((layoutMethods (lD σ own)).bind (·[1]?)).getD default
def lLaid (σ : Lambda.Shape) (own : String) : Array Field × Array FieldType × Array FieldType := (layoutFields (lD σ own) 0).getD (#[], #[], #[])
def lOk (σ : Lambda.Shape) (own : String) (code : Array UInt8) (maxL : Nat) (ret : FieldType) (fi : List (Nat × Nat × Nat)) (types : Array FieldType) (mi ci nt sn : Nat) (y : MethodName) : Prop :=
  ((σ.file own).isSome = true ∧ ((layoutMethods (lD σ own)).bind (·[1]?)).isSome = true ∧ (layoutFields (lD σ own) 0).isSome = true) ∧
  ((lFwd σ own).code.map fun c => (c.code.data, c.maxLocals)) = some (code, maxL) ∧ ((lFwd σ own).accessFlags, (lFwd σ own).sig.returnType) = (0x0001, some ret) ∧
  ((lD σ own).constantPool[mi]? = some (.methodref ci nt) ∧ (lD σ own).constantPool.className? ci = some y.cls ∧ (lD σ own).constantPool.nameAndType? nt = some (y.name, y.desc)) ∧
  ((lD σ own).constantPool[ci]? = some (.class_ sn) ∧ (lD σ own).constantPool.string? sn = some y.cls ∧ ci ≠ (lD σ own).thisClass) ∧
  (σ.implClass = y.cls ∧ σ.implName = y.name ∧ σ.implDesc.toString = y.desc ∧ σ.implItf = false) ∧
  (∀ q ∈ fi.zipIdx, (lD σ own).constantPool[q.1.1]? = some (.fieldref q.1.2.1 q.1.2.2) ∧ (((lD σ own).constantPool.nameAndType? q.1.2.2).bind fun nd => (lLaid σ own).1.findIdx? (·.name == nd.1)) = some q.2 ∧ ((lLaid σ own).1[q.2]?).map (fun f => (f.isStatic, f.slot)) = some (false, q.2)) ∧
  (lLaid σ own).2.1 = types
/-- what the tables say of a made class -/
def lmF (vm : Vm) (cK : ClassId) (own : String) (code : Array UInt8) (maxL : Nat) (ret : FieldType) (fi : List (Nat × Nat × Nat)) (types : Array FieldType) (mi ci nt : Nat) (y : MethodName) : Prop :=
  ∃ (k tk : Class) (file : ClassFile) (methk : Method) (ck : Code) (toy : ClassId) (t : MethodId),
    (vm.classes[cK]? = some k ∧ k.name = own ++ "$$Lambda" ∧ k.cf = some file ∧ file.constantPool[mi]? = some (.methodref ci nt) ∧ file.constantPool.nameAndType? nt = some (y.name, y.desc)) ∧
    (vm.method? ⟨cK, 1⟩ = some methk ∧ methk.code = some ck ∧ ck.code.data = code ∧ ck.maxLocals = maxL ∧ methk.locks = false ∧ methk.accessFlags = 0x0001 ∧ methk.sig.returnType = some ret) ∧
    (vm.findClass y.cls = some toy ∧ vm.classes[toy]? = some tk ∧ tk.isInterface = false ∧ ((methodIn toy y.name y.desc tk.isInterface none).ask { classPath := fun _ => none } vm).1 = .ok t) ∧
    vm.methodReady cK mi t ∧ vm.classReady cK ci toy ∧
    (∀ (j : Nat) (q : Nat × Nat × Nat), fi[j]? = some q → ∃ f : Field, vm.fieldReady cK q.1 cK f ∧ f.isStatic = false ∧ f.slot = j) ∧ k.instanceTypes = types ∧ k.kind = .ordinary
theorem lm_made {σ : Lambda.Shape} {own : String} {code : Array UInt8} {maxL : Nat} {ret : FieldType} {fi : List (Nat × Nat × Nat)} {types : Array FieldType} {mi ci nt sn : Nat} {y : MethodName} (ok : lOk σ own code maxL ret fi types mi ci nt sn y)
    {vm : Vm} {d c : ClassId} {dk : Class} (hd : vm.classes[d]? = some dk) (hname : dk.name = own) (h : Lambda.isMade { classPath := fun _ => none } vm d σ c = true)
    (hO : ∀ o ok, vm.findClass "java/lang/Object" = some o → vm.classes[o]? = some ok → ok.instanceTypes.size = 0) : lmF vm c own code maxL ret fi types mi ci nt y := by
  obtain ⟨⟨o1, o2, o3⟩, fc, ff, eM, eC, ⟨i1, i2, i3, i4⟩, eF, eT⟩ := ok
  obtain ⟨dk', k, ok, tk, file, cf, object, iface, toy, lay, methods, target, found, hd', hk, hfile, hcf, hobj, -, hok, hlay, hms, ht, htk, hg, -, hrec, -, -, -, hitf, hpool, hmeth, hfields, ⟨hty, -⟩, hres, -⟩ := Lambda.isMade_spec h
  cases hd.symm.trans hd'
  rw [hname] at hcf
  have hDcf : cf = lD σ own := by unfold lD; rw [hcf]; rfl
  subst hDcf
  have hO0 := hO object ok hobj hok
  rw [hO0] at hlay
  have hlay' : lay = lLaid σ own := by unfold lLaid; rw [hlay]; rfl
  subst hlay'
  obtain ⟨x2, hx2⟩ := Option.isSome_iff_exists.mp o2
  have hfw : methods[1]? = some (lFwd σ own) := by
    have e1 : lFwd σ own = x2 := by unfold lFwd; rw [hx2]; rfl
    rw [hms] at hx2
    rw [e1]
    exact hx2
  obtain ⟨b, hb, hsame⟩ := hmeth 1 _ hfw
  obtain ⟨s1, s2, s3, s4, x, z, s5, s6, s7, s8, s9, s10⟩ := Lambda.sameMethod_spec hsame
  simp only [Prod.mk.injEq] at ff
  rw [s5] at fc
  simp only [Option.map_some, Option.some.injEq, Prod.mk.injEq] at fc
  rw [i1] at ht
  rw [i2, i3] at hg
  refine ⟨k, tk, file, b, z, toy, target, ⟨hk, by rw [hrec.1, hname], hfile, by rw [hpool.2.1]; exact eM.1, by rw [hpool.2.1]; exact eM.2.2⟩, ⟨by simp [Vm.method?, hk, hb], s6, by rw [s9]; exact fc.1, by rw [s8]; exact fc.2, by simp [Method.locks, Method.isSynchronized, s4, ff.1, hasFlag, Acc.synchronized], by rw [s4]; exact ff.1, by rw [s3]; exact ff.2⟩,
    ⟨ht, htk, by rw [hitf, i4], hg⟩, ⟨k, hk, hres mi _ (Lambda.resolvedOf_method eM.1 eM.2.1 ht htk eM.2.2 hg)⟩, ⟨k, hk, hres ci _ (Lambda.resolvedOf_class eC.1 eC.2.2 eC.2.1 ht)⟩, fun j q hq => ?_, ?_, hrec.2.1⟩
  · have hmem : (q, j) ∈ fi.zipIdx := by rw [List.mem_zipIdx_iff_getElem?]; exact hq
    obtain ⟨e1, e2, e3⟩ := eF _ hmem
    dsimp only at e1 e2 e3
    obtain ⟨nd, e4, e5⟩ := Option.bind_eq_some_iff.mp e2
    obtain ⟨g0, hg0, hp0⟩ := Option.map_eq_some_iff.mp e3
    simp only [Prod.mk.injEq] at hp0
    exact ⟨g0, ⟨k, j, k, hk, hres q.1 _ (Lambda.resolvedOf_field e1 e4 e5), hk, hfields j _ hg0⟩, hp0.1, hp0.2⟩
  · rw [hty, ← eT]
    have : ok.instanceTypes = #[] := Array.eq_empty_of_size_eq_zero hO0
    rw [this]
    simp
theorem lok_0 : lOk (lsS siteWord_1_1) "FigureSurvey" #[42, 180, 0, 17, 42, 180, 0, 19, 27, 182, 0, 27, 172] 2 .boolean [(17, 2, 16), (19, 2, 18)] #[.object "FigureSurvey", .object "FigureSurvey$Panel"] 27 23 26 22 ⟨"FigureSurvey", "lambda$genuineOn$0", "(LFigureSurvey$Panel;I)Z"⟩ := by unfold lOk; decide +kernel
theorem lok_1 : lOk (lsS siteWord_1_2) "FigureSurvey$Figure" #[42, 180, 0, 15, 27, 182, 0, 22, 172] 2 .boolean [(15, 2, 14)] #[.object "FigureSurvey$Figure"] 22 19 21 18 ⟨"FigureSurvey$Figure", "lambda$doubt$0", "(I)Z"⟩ := by unfold lOk; decide +kernel
theorem lok_2 : lOk (lsS siteWord_1_3) "FigureSurvey" #[42, 180, 0, 15, 27, 182, 0, 22, 172] 2 .boolean [(15, 2, 14)] #[.object "FigureSurvey"] 22 19 21 18 ⟨"FigureSurvey", "lambda$errors$4", "(I)Z"⟩ := by unfold lOk; decide +kernel
theorem lok_3 : lOk (lsS siteWord_1_5) "FigureSurvey$Scene" #[42, 180, 0, 15, 27, 28, 182, 0, 22, 172] 3 .int [(15, 2, 14)] #[.object "FigureSurvey$Scene"] 22 19 21 18 ⟨"FigureSurvey$Scene", "price", "(II)I"⟩ := by unfold lOk; decide +kernel
theorem lok_4 : lOk (lsS siteWord_1_6) "FigureSurvey$Scene" #[42, 180, 0, 15, 27, 28, 182, 0, 22, 172] 3 .boolean [(15, 2, 14)] #[.object "FigureSurvey$Scene"] 22 19 21 18 ⟨"FigureSurvey$Scene", "clash", "(II)Z"⟩ := by unfold lOk; decide +kernel
theorem lok_5 : lOk (lsS siteWord_1_7) "FigureSurvey$Scene" #[42, 180, 0, 18, 42, 180, 0, 20, 42, 180, 0, 22, 27, 184, 0, 30, 172] 2 .boolean [(18, 2, 17), (20, 2, 19), (22, 2, 21)] #[.int, .object "FigureSurvey$Clash", .int] 30 26 29 25 ⟨"FigureSurvey$Scene", "lambda$bestBroken$0", "(ILFigureSurvey$Clash;II)Z"⟩ := by unfold lOk; decide +kernel
theorem lok_6 : lOk (lsS siteWord_1_8) "FigureSurvey$Panel" #[42, 180, 0, 17, 42, 180, 0, 19, 27, 182, 0, 27, 172] 2 .boolean [(17, 2, 16), (19, 2, 18)] #[.object "FigureSurvey$Panel", .int] 27 23 26 22 ⟨"FigureSurvey$Panel", "lambda$seen$0", "(II)Z"⟩ := by unfold lOk; decide +kernel
theorem lok_7 : lOk (lsS siteWord_1_9) "FigureSurvey" #[42, 180, 0, 17, 42, 180, 0, 19, 27, 182, 0, 27, 172] 2 .boolean [(17, 2, 16), (19, 2, 18)] #[.object "FigureSurvey", .object "FigureSurvey$Panel"] 27 23 26 22 ⟨"FigureSurvey", "lambda$addFigure$1", "(LFigureSurvey$Panel;I)Z"⟩ := by unfold lOk; decide +kernel
theorem lok_8 : lOk (lsS siteWord_1_10) "FigureSurvey" #[42, 180, 0, 17, 42, 180, 0, 19, 27, 182, 0, 27, 172] 2 .boolean [(17, 2, 16), (19, 2, 18)] #[.object "FigureSurvey", .object "FigureSurvey$Panel"] 27 23 26 22 ⟨"FigureSurvey", "lambda$addEntry$2", "(LFigureSurvey$Panel;I)Z"⟩ := by unfold lOk; decide +kernel
theorem lok_9 : lOk (lsS siteWord_1_11) "FigureSurvey" #[42, 180, 0, 15, 27, 182, 0, 22, 172] 2 .boolean [(15, 2, 14)] #[.object "FigureSurvey"] 22 19 21 18 ⟨"FigureSurvey", "lambda$tellDam$3", "(I)Z"⟩ := by unfold lOk; decide +kernel
