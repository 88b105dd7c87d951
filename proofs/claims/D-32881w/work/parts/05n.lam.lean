/-! ===== lambdas: making one ===== -/
set_option maxRecDepth 100000
def lVal : List FieldType → List Value → Prop
  | [], [] => True
  | t :: ts, v :: vs => narrow t v = v ∧ fits t v = true ∧ lVal ts vs
  | _, _ => False
theorem lVal_spec : ∀ (ts : List FieldType) (vs : List Value), lVal ts vs → ((ts.zip vs).map fun (q : FieldType × Value) => narrow q.1 q.2) = vs ∧ ts.length = vs.length ∧ ∀ (i : Nat) (v : Value), vs[i]? = some v → ∃ t, ts[i]? = some t ∧ fits t v = true := by
  intro ts
  induction ts with
  | nil =>
    intro vs h
    cases vs with
    | nil => exact ⟨rfl, rfl, fun i v hv => by simp at hv⟩
    | cons v vs => exact h.elim
  | cons t ts ih =>
    intro vs h
    cases vs with
    | nil => exact h.elim
    | cons v vs =>
      obtain ⟨h1, h2, h3⟩ := h
      obtain ⟨i1, i2, i3⟩ := ih vs h3
      refine ⟨by rw [List.zip_cons_cons, List.map_cons, i1, h1], by simp [i2], fun i w hw => ?_⟩
      cases i with
      | zero => simp only [List.getElem?_cons_zero, Option.some.injEq] at hw; subst hw; exact ⟨t, rfl, h2⟩
      | succ i => exact i3 i w hw
theorem arr3 {α : Type} {ba : Array Nat} {F : Nat → Nat → Nat → Option α} {r : α} (h : (match ba with
  | #[a0, a1, a2] => F a0 a1 a2
  | _ => none) = some r) : ∃ a0 a1 a2, F a0 a1 a2 = some r := by
  obtain ⟨l⟩ := ba
  rcases l with _ | ⟨a0, _ | ⟨a1, _ | ⟨a2, _ | ⟨a3, t⟩⟩⟩⟩
  · cases (show none = some r from h)
  · cases (show none = some r from h)
  · cases (show none = some r from h)
  · exact ⟨a0, a1, a2, h⟩
  · cases (show none = some r from h)
theorem oBm {α β : Type} {o : Option α} {f : α → Option β} {r : β} (h : (o >>= f) = some r) : ∃ a, o = some a ∧ f a = some r := Option.bind_eq_some_iff.mp h
theorem shape_inv {cf : ClassFile} {index : Nat} {σ : Lambda.Shape} (h : Lambda.shapeOf? cf index = some σ) : ∃ (b nt : Nat) (name desc : String) (site : MethodDescriptor), cf.constantPool[index]? = some (.invokeDynamic b nt) ∧ cf.constantPool.nameAndType? nt = some (name, desc) ∧ parseMethodDescriptor desc = some site ∧ site.parameters = σ.captured := by
  unfold Lambda.shapeOf? at h
  split at h
  · rename_i b nt hc
    obtain ⟨entries, -, h⟩ := oBm h
    obtain ⟨bm, -, h⟩ := oBm h
    split at h
    · obtain ⟨u, -, h⟩ := oBm h
      obtain ⟨a0, a1, a2, h⟩ := arr3 h
      split at h
      · split at h
        · split at h
          · obtain ⟨⟨name, desc⟩, hnt, h⟩ := oBm h
            obtain ⟨site, hs, h⟩ := oBm h
            split at h
            · obtain ⟨q, -, h⟩ := oBm h
              obtain ⟨a1, -, h⟩ := oBm h
              obtain ⟨a2, -, h⟩ := oBm h
              obtain ⟨a3, -, h⟩ := oBm h
              obtain ⟨a4, -, h⟩ := oBm h
              obtain ⟨a5, -, h⟩ := oBm h
              have h := Option.some.inj h
              exact ⟨b, nt, name, desc, site, hc, hnt, hs, by rw [← h]⟩
            · cases h
          · cases h
        · cases h
      · cases h
    · cases h
  · cases h
section ALM
variable {p : Program} {l : Launch} {e : Env} {R : Room} {s : State} {m : MethodId} {args : Array Value} {below : List Frame} {meth : Method} {c : Code} {D : aD} {n0 s0 : Nat} {Q : State → Prop}
variable {own : String} {cc : ByteArray} {rf rl nL : Nat} {h h' : aH} {pc : Nat} {lv : aLv} {st : List Value}
theorem lm_obj {s : State} (hG : gT s) : ∀ o ok, s.vm.findClass "java/lang/Object" = some o → s.vm.classes[o]? = some ok → ok.instanceTypes.size = 0 := by
  intro o ok ho hok
  obtain ⟨c, k, h1, h2, -, -, -, h3⟩ := Cond.instantiable_spec (hG.use (args := #[]) (g_all q2978))
  cases h1.symm.trans ho
  cases h2.symm.trans hok
  exact h3
theorem lm_site {k pc0 ix : Nat} {y0 y : MethodName} {σ : Lambda.Shape} {code : Array UInt8} {hm mi ci nt sn : Nat} {rt : FieldType} {fi : List (Nat × Nat × Nat)} {types : Array FieldType} (hV : aVm D s) (hk : aLms[k]? = some (y0, pc0, ix, σ)) (ok : lOk σ y0.cls code hm rt fi types mi ci nt sn y) :
    lmF s.vm (D.1.1 (110 + k)) y0.cls code hm rt fi types mi ci nt y := by
  obtain ⟨m9, kc, cf, i0, p0, a1, a2, a3, a4, a5, a6, a7⟩ := hV.2.2.2.2.2 k _ hk
  obtain ⟨k9, b1, b2⟩ := className_of_methodNamed a1
  cases a2.symm.trans b1
  exact lm_made ok a2 b2 a6 (lm_obj hV.1)
theorem v_lam (C : aC p l R s m meth c D n0 s0 own cc rf rl nL) {y0 y : MethodName} (hn : s.methodNamed? y0 = some m) {k index : Nat} {σ : Lambda.Shape} {code : Array UInt8} {hm mi ci nt sn : Nat} {rt : FieldType} {fi : List (Nat × Nat × Nat)} {types : Array FieldType} {vals rest : List Value} (hk : aLms[k]? = some (y0, pc, index, σ)) (ok : lOk σ y0.cls code hm rt fi types mi ci nt sn y)
    (hcap : σ.captured.length = vals.length) (hv : lVal types.toList vals) (hst : vals.reverse ++ rest = st) (hf : aMk D h (110 + k, vals) = some h') (hrl : (st.map fun v => v.category).sum + 3072 ≤ rl) (d : decode cc pc = .ok (.invokedynamic index, 5)) (kk : V p l e R s m args below meth c D n0 s0 Q h' (pc + 5) lv (va_rf (some h.1) :: rest)) : V p l e R s m args below meth c D n0 s0 Q h pc lv st := by
  intro H locs k' n ls h1 h2 h3 h4 h5 h6 h7 T hT X
  obtain ⟨f1, f2, rfl⟩ := aMk_eq hf
  dsimp only at f2
  obtain ⟨m9, kc, cf, i0, p0, a1, a2, a3, a4, a5, a6, a7⟩ := C.2.2.2.1.2.2.2.2.2 k _ hk
  cases hn.symm.trans a1
  obtain ⟨kK, tk, file, methk, ck, toy, t, ⟨r1, -⟩, -, -, -, -, -, r2, r3⟩ := lm_site C.2.2.2.1 hk ok
  obtain ⟨b, nt9, name, desc, site, e1, e2, e3, e4⟩ := shape_inv a4
  obtain ⟨v1, v2, v3⟩ := lVal_spec _ _ hv
  have hmap : ((kK.instanceTypes.toList.zip vals).map fun (x : FieldType × Value) => match x with | (t, v) => narrow t v) = vals := by rw [r2]; exact v1
  have hww : e.platform.lambdaLinkWords = 3072 := by rw [X.admits.platform]
  have g1 := C.2.2.2.2.2.2.2.1
  have g2 := C.2.2.2.2.2.2.2.2.1
  have g3 := C.2.2.2.2.2.2.1
  obtain ⟨X', steps⟩ := X.lambdaMakes C.1 (g := F0 m pc ls st) rfl h7.1.1 (by rw [C.2.1]; exact d) a2 a5 a3 e1 e2 (parseLong_of_parse e3) (vals := vals) (rest := rest) (by rw [e4, hcap]) hst.symm r1
    (by show 2 * 0 + (st.map fun v => v.category).sum + e.platform.lambdaLinkWords ≤ R.locals; omega) (by omega) (by rw [hmap]; omega) (by
      rw [hmap]
      intro i v hi
      rw [List.getElem?_toArray] at hi
      obtain ⟨t9, t1, t2⟩ := v3 i v hi
      unfold State.fitsSlot State.slotType?
      simp only [Option.bind_eq_bind, r1, Option.bind_some, r3]
      have : kK.instanceTypes[i]? = some t9 := by rw [r2, ← Array.getElem?_toList]; exact t1
      rw [this]
      exact t2)
  rw [hmap] at X' steps
  have hsz : vals.toArray.size = vals.length := rfl
  have hh : (T.pushCell { cls := D.1.1 (110 + k), slots := vals.toArray, vm := .none }).heap = H.push { cls := D.1.1 (110 + k), slots := vals.toArray, vm := .none } := by rw [← hT]; rfl
  have e9 : (H.push { cls := D.1.1 (110 + k), slots := vals.toArray, vm := VmData.none }).size = H.size + 1 := Array.size_push _
  have e8 : ∀ q : Nat, q < H.size → (H.push { cls := D.1.1 (110 + k), slots := vals.toArray, vm := VmData.none })[q]? = H[q]? := fun q hq => by rw [Array.getElem?_push_lt hq, Array.getElem?_eq_getElem hq]
  obtain ⟨t2, s1, s2⟩ := kk _ locs (k' + 1) (n + vals.length) ls (h1.new e9 e8 f1 f2 ⟨_, by rw [Array.getElem?_push_size], rfl, rfl, by simp, fun _ => ⟨rfl, fun _ => rfl⟩, Or.inr ⟨by dsimp only; omega, rfl⟩⟩) (h2.new e9 e8) (by rw [e9]; omega) h4 (by show k' + 1 + n0 ≤ h.1 + 1; omega) (by show n + vals.length + s0 ≤ h.2.1 + vals.length; omega) h7 _ hh X'
  refine ⟨t2, steps _ ?_, s2⟩
  rw [hT, h1.1]
  exact s1
end ALM
