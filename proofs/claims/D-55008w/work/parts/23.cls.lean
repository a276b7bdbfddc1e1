/-! classes (printed by gen/mkcls.py) -/
set_option maxRecDepth 100000
set_option maxHeartbeats 1000000
theorem KX1 : ClsOk 0 RX1 TX1 7 tyX1 := ⟨rfl, in_X1, tyX1_ok, nmX1⟩
abbrev fsX1 : List Value := [.null, .null, .null, .null, .int 0, .null, .null]
theorem dfX1 : ∀ j, j < 7 → defaultValue (tyX1 j) = vp_V fsX1 j := fun j hj => match j, hj with | 0, _ => rfl | 1, _ => rfl | 2, _ => rfl | 3, _ => rfl | 4, _ => rfl | 5, _ => rfl | 6, _ => rfl | (j + 7), hj => absurd hj (by omega)
theorem KX2 : ClsOk 1 RX2 TX2 4 tyX2 := ⟨rfl, in_X2, tyX2_ok, nmX2⟩
abbrev fsX2 : List Value := [.null, .null, .null, .null]
theorem dfX2 : ∀ j, j < 4 → defaultValue (tyX2 j) = vp_V fsX2 j := fun j hj => match j, hj with | 0, _ => rfl | 1, _ => rfl | 2, _ => rfl | 3, _ => rfl | (j + 4), hj => absurd hj (by omega)
theorem KX3 : ClsOk 2 RX3 TX3 24 tyX3 := ⟨rfl, in_X3, tyX3_ok, nmX3⟩
abbrev fsX3 : List Value := [.int 0, .null, .null, .null, .null, .null, .int 0, .int 0, .null, .null, .null, .int 0, .int 0, .int 0, .int 0, .int 0, .int 0, .int 0, .int 0, .int 0, .int 0, .int 0, .int 0, .int 0]
theorem dfX3 : ∀ j, j < 24 → defaultValue (tyX3 j) = vp_V fsX3 j := fun j hj => match j, hj with | 0, _ => rfl | 1, _ => rfl | 2, _ => rfl | 3, _ => rfl | 4, _ => rfl | 5, _ => rfl | 6, _ => rfl | 7, _ => rfl | 8, _ => rfl | 9, _ => rfl | 10, _ => rfl | 11, _ => rfl | 12, _ => rfl | 13, _ => rfl | 14, _ => rfl | 15, _ => rfl | 16, _ => rfl | 17, _ => rfl | 18, _ => rfl | 19, _ => rfl | 20, _ => rfl | 21, _ => rfl | 22, _ => rfl | 23, _ => rfl | (j + 24), hj => absurd hj (by omega)
theorem KX4 : ClsOk 3 RX4 TX4 4 tyX4 := ⟨rfl, in_X4, tyX4_ok, nmX4⟩
abbrev fsX4 : List Value := [.null, .int 0, .int 0, .int 0]
theorem dfX4 : ∀ j, j < 4 → defaultValue (tyX4 j) = vp_V fsX4 j := fun j hj => match j, hj with | 0, _ => rfl | 1, _ => rfl | 2, _ => rfl | 3, _ => rfl | (j + 4), hj => absurd hj (by omega)
theorem KX5 : ClsOk 4 RX5 TX5 5 tyX5 := ⟨rfl, in_X5, tyX5_ok, nmX5⟩
abbrev fsX5 : List Value := [.int 0, .int 0, .null, .int 0, .int 0]
theorem dfX5 : ∀ j, j < 5 → defaultValue (tyX5 j) = vp_V fsX5 j := fun j hj => match j, hj with | 0, _ => rfl | 1, _ => rfl | 2, _ => rfl | 3, _ => rfl | 4, _ => rfl | (j + 5), hj => absurd hj (by omega)
theorem KX6 : ClsOk 5 RX6 TX6 1 tyX6 := ⟨rfl, in_X6, tyX6_ok, nmX6⟩
abbrev fsX6 : List Value := [.null]
theorem dfX6 : ∀ j, j < 1 → defaultValue (tyX6 j) = vp_V fsX6 j := fun j hj => match j, hj with | 0, _ => rfl | (j + 1), hj => absurd hj (by omega)
theorem KX7 : ClsOk 6 RX7 TX7 8 tyX7 := ⟨rfl, in_X7, tyX7_ok, nmX7⟩
abbrev fsX7 : List Value := [.null, .null, .null, .null, .null, .int 0, .int 0, .int 0]
theorem dfX7 : ∀ j, j < 8 → defaultValue (tyX7 j) = vp_V fsX7 j := fun j hj => match j, hj with | 0, _ => rfl | 1, _ => rfl | 2, _ => rfl | 3, _ => rfl | 4, _ => rfl | 5, _ => rfl | 6, _ => rfl | 7, _ => rfl | (j + 8), hj => absurd hj (by omega)
theorem KX8 : ClsOk 7 RX8 TX8 3 tyX8 := ⟨rfl, in_X8, tyX8_ok, nmX8⟩
abbrev fsX8 : List Value := [.int 0, .int 0, .int 0]
theorem dfX8 : ∀ j, j < 3 → defaultValue (tyX8 j) = vp_V fsX8 j := fun j hj => match j, hj with | 0, _ => rfl | 1, _ => rfl | 2, _ => rfl | (j + 3), hj => absurd hj (by omega)
theorem KX9 : ClsOk 8 RX9 TX9 3 tyX9 := ⟨rfl, in_X9, tyX9_ok, nmX9⟩
abbrev fsX9 : List Value := [.int 0, .int 0, .int 0]
theorem dfX9 : ∀ j, j < 3 → defaultValue (tyX9 j) = vp_V fsX9 j := fun j hj => match j, hj with | 0, _ => rfl | 1, _ => rfl | 2, _ => rfl | (j + 3), hj => absurd hj (by omega)
theorem KX10 : ClsOk 9 RX10 TX10 7 tyX10 := ⟨rfl, in_X10, tyX10_ok, nmX10⟩
abbrev fsX10 : List Value := [.int 0, .int 0, .int 0, .int 0, .int 0, .int 0, .int 0]
theorem dfX10 : ∀ j, j < 7 → defaultValue (tyX10 j) = vp_V fsX10 j := fun j hj => match j, hj with | 0, _ => rfl | 1, _ => rfl | 2, _ => rfl | 3, _ => rfl | 4, _ => rfl | 5, _ => rfl | 6, _ => rfl | (j + 7), hj => absurd hj (by omega)
theorem KX12 : ClsOk 10 RX12 TX12 4 tyX12 := ⟨rfl, in_X12, tyX12_ok, nmX12⟩
abbrev fsX12 : List Value := [.int 0, .int 0, .int 0, .int 0]
theorem dfX12 : ∀ j, j < 4 → defaultValue (tyX12 j) = vp_V fsX12 j := fun j hj => match j, hj with | 0, _ => rfl | 1, _ => rfl | 2, _ => rfl | 3, _ => rfl | (j + 4), hj => absurd hj (by omega)
theorem KX13 : ClsOk 11 RX13 TX13 5 tyX13 := ⟨rfl, in_X13, tyX13_ok, nmX13⟩
abbrev fsX13 : List Value := [.int 0, .int 0, .int 0, .null, .null]
theorem dfX13 : ∀ j, j < 5 → defaultValue (tyX13 j) = vp_V fsX13 j := fun j hj => match j, hj with | 0, _ => rfl | 1, _ => rfl | 2, _ => rfl | 3, _ => rfl | 4, _ => rfl | (j + 5), hj => absurd hj (by omega)
theorem KX14 : ClsOk 12 RX14 TX14 1 tyX14 := ⟨rfl, in_X14, tyX14_ok, nmX14⟩
abbrev fsX14 : List Value := [.null]
theorem dfX14 : ∀ j, j < 1 → defaultValue (tyX14 j) = vp_V fsX14 j := fun j hj => match j, hj with | 0, _ => rfl | (j + 1), hj => absurd hj (by omega)
theorem KX15 : ClsOk 13 RX15 TX15 3 tyX15 := ⟨rfl, in_X15, tyX15_ok, nmX15⟩
abbrev fsX15 : List Value := [.int 0, .int 0, .null]
theorem dfX15 : ∀ j, j < 3 → defaultValue (tyX15 j) = vp_V fsX15 j := fun j hj => match j, hj with | 0, _ => rfl | 1, _ => rfl | 2, _ => rfl | (j + 3), hj => absurd hj (by omega)
theorem KX16 : ClsOk 14 RX16 TX16 2 tyX16 := ⟨rfl, in_X16, tyX16_ok, nmX16⟩
abbrev fsX16 : List Value := [.int 0, .null]
theorem dfX16 : ∀ j, j < 2 → defaultValue (tyX16 j) = vp_V fsX16 j := fun j hj => match j, hj with | 0, _ => rfl | 1, _ => rfl | (j + 2), hj => absurd hj (by omega)
theorem KX17 : ClsOk 15 RX17 TX17 7 tyX17 := ⟨rfl, in_X17, tyX17_ok, nmX17⟩
abbrev fsX17 : List Value := [.null, .null, .null, .null, .null, .int 0, .int 0]
theorem dfX17 : ∀ j, j < 7 → defaultValue (tyX17 j) = vp_V fsX17 j := fun j hj => match j, hj with | 0, _ => rfl | 1, _ => rfl | 2, _ => rfl | 3, _ => rfl | 4, _ => rfl | 5, _ => rfl | 6, _ => rfl | (j + 7), hj => absurd hj (by omega)
theorem KJ2 : ClsOk 16 RJ2 TJ2 3 tyJ2 := ⟨rfl, in_J2, tyJ2_ok, nmJ2⟩
abbrev fsJ2 : List Value := [.int 0, .null, .int 0]
theorem dfJ2 : ∀ j, j < 3 → defaultValue (tyJ2 j) = vp_V fsJ2 j := fun j hj => match j, hj with | 0, _ => rfl | 1, _ => rfl | 2, _ => rfl | (j + 3), hj => absurd hj (by omega)
theorem KJ3 : ClsOk 17 RJ3 TJ3 3 tyJ3 := ⟨rfl, in_J3, tyJ3_ok, nmJ3⟩
abbrev fsJ3 : List Value := [.null, .int 0, .int 0]
theorem dfJ3 : ∀ j, j < 3 → defaultValue (tyJ3 j) = vp_V fsJ3 j := fun j hj => match j, hj with | 0, _ => rfl | 1, _ => rfl | 2, _ => rfl | (j + 3), hj => absurd hj (by omega)
theorem KJ5 : ClsOk 18 RJ5 TJ5 4 tyJ5 := ⟨rfl, in_J5, tyJ5_ok, nmJ5⟩
abbrev fsJ5 : List Value := [.null, .int 0, .int 0, .int 0]
theorem dfJ5 : ∀ j, j < 4 → defaultValue (tyJ5 j) = vp_V fsJ5 j := fun j hj => match j, hj with | 0, _ => rfl | 1, _ => rfl | 2, _ => rfl | 3, _ => rfl | (j + 4), hj => absurd hj (by omega)
theorem KJ6 : ClsOk 19 RJ6 TJ6 4 tyJ6 := ⟨rfl, in_J6, tyJ6_ok, nmJ6⟩
abbrev fsJ6 : List Value := [.null, .int 0, .int 0, .int 0]
theorem dfJ6 : ∀ j, j < 4 → defaultValue (tyJ6 j) = vp_V fsJ6 j := fun j hj => match j, hj with | 0, _ => rfl | 1, _ => rfl | 2, _ => rfl | 3, _ => rfl | (j + 4), hj => absurd hj (by omega)
theorem KJ19 : ClsOk 20 RJ19 TJ19 4 tyJ19 := ⟨rfl, in_J19, tyJ19_ok, nmJ19⟩
abbrev fsJ19 : List Value := [.int 0, .int 0, .int 0, .null]
theorem dfJ19 : ∀ j, j < 4 → defaultValue (tyJ19 j) = vp_V fsJ19 j := fun j hj => match j, hj with | 0, _ => rfl | 1, _ => rfl | 2, _ => rfl | 3, _ => rfl | (j + 4), hj => absurd hj (by omega)
theorem qdf0 : (Jvm.Cond.methodLink "BlockPapers$Block" 31 ⟨"BlockPapers$Block", "within", "(I)I"⟩) ∈ wA := wA_d (by decide +kernel)
theorem qdf1 : (Jvm.Cond.sameMethod "BlockPapers$Block" "BlockPapers$Patterned" "within" "(I)I") ∈ wA := wA_d (by decide +kernel)
theorem qdf2 : (Jvm.Cond.methodLink "BlockPapers$Workshop" 193 ⟨"BlockPapers$Block", "within", "(I)I"⟩) ∈ wA := wA_d (by decide +kernel)
theorem qdf3 : (Jvm.Cond.methodLink "BlockPapers$Workshop" 196 ⟨"BlockPapers$Block", "between", "(II)I"⟩) ∈ wA := wA_d (by decide +kernel)
theorem qdf4 : (Jvm.Cond.sameMethod "BlockPapers$Block" "BlockPapers$Patterned" "between" "(II)I") ∈ wA := wA_d (by decide +kernel)
theorem qxp0 : (Jvm.Cond.selects "java/lang/StringBuilder" ⟨"java/lang/AbstractStringBuilder", "ensureCapacityInternal", "(I)V"⟩ ⟨"java/lang/AbstractStringBuilder", "ensureCapacityInternal", "(I)V"⟩) ∈ wA := wA_x (by decide +kernel)
theorem qxp1 : (Jvm.Cond.selects "java/lang/StringBuilder" ⟨"java/lang/AbstractStringBuilder", "inflate", "()V"⟩ ⟨"java/lang/AbstractStringBuilder", "inflate", "()V"⟩) ∈ wA := wA_x (by decide +kernel)
theorem qxp2 : (Jvm.Cond.selects "java/lang/StringBuilder" ⟨"java/lang/AbstractStringBuilder", "newCapacity", "(I)I"⟩ ⟨"java/lang/AbstractStringBuilder", "newCapacity", "(I)I"⟩) ∈ wA := wA_x (by decide +kernel)
theorem qxp3 : (Jvm.Cond.selects "java/lang/StringBuilder" ⟨"java/lang/AbstractStringBuilder", "putStringAt", "(ILjava/lang/String;)V"⟩ ⟨"java/lang/AbstractStringBuilder", "putStringAt", "(ILjava/lang/String;)V"⟩) ∈ wA := wA_x (by decide +kernel)
theorem vx_ofWF {l : Launch} {y : MethodName} {ws ws' : List Cond} {rm : Room} {Pc : Array Value → State → Prop} {Qc : Array Value → State → Outcome → State → Prop} {XC : String → Nat → State → State → Prop} {mc ms : Nat} {free : Addr → Prop} {cc : ByteArray} {maxL : Nat} {ret : Option FieldType}
    (hy : plainFor y = true) (hw : ws = Cond.code y cc maxL ret :: ws')
    (body : ∀ p e s m args below meth c s₁, BodyLoose p l y (headSpec ws rm) cc maxL ret e s m args below meth c s₁ → c.maxLocals = maxL → (∀ x ∈ c.exceptionTable.toList, False) → Pc args s →
      W p l e (headSpec ws rm).room s m args below meth c s.heap [] 0 0 (vx_MQ below Qc XC args s mc ms free) (entryFrame m args maxL)) : vx_Met l y ws rm Pc Qc XC mc ms free := by
  refine MetFree.of_bodySF (code := cc) (maxLocals := maxL) (ret := ret) hy ?_ ?_
  · intro args s m h hn
    obtain ⟨meth, c, h1, h2, h3, h4, h5, h6, -, -⟩ := Cond.code_spec hn (atoms_spec (ws := ws) h _ (by rw [hw]; exact List.mem_cons_self))
    exact ⟨meth, c, h1, h2, h3, h4, h5, h6⟩
  · intro p e s m args below meth c s₁ B hml hP _
    have hh0 : s₁.heap = s.heap := by rw [B.state]; rfl
    have ht : ∀ x ∈ c.exceptionTable.toList, False := by
      obtain ⟨meth9, c9, h1, h2, -, -, -, -, h7, -⟩ := Cond.code_spec B.named (atoms_spec (ws := ws) B.pre _ (by rw [hw]; exact List.mem_cons_self))
      cases Option.some.inj (h1.symm.trans B.method)
      cases Option.some.inj (h2.symm.trans (Stand.of_body B).code)
      intro x hx
      rw [Array.isEmpty_iff.mp h7] at hx
      cases hx
    obtain ⟨t, a1, o, b1, b2, b3⟩ := body p e s m args below meth c s₁ B hml ht hP s₁ hh0 (Stand.of_body B)
    exact ⟨t, o, a1, b1, b2, b3⟩
theorem vx_ofWHF {l : Launch} {y : MethodName} {ws ws' : List Cond} {rm : Room} {Pc : Array Value → State → Prop} {Qc : Array Value → State → Outcome → State → Prop} {XC : String → Nat → State → State → Prop} {mc ms : Nat} {free : Addr → Prop} {cc : ByteArray} {maxL : Nat} {ret : Option FieldType} {hh : List (Nat × Nat × Nat × Nat)}
    (hy : plainFor y = true) (hw : ws = Cond.codeWith y cc maxL ret hh :: ws')
    (body : ∀ p e s m args below meth c s₁, BodyLoose p l y (headSpec ws rm) cc maxL ret e s m args below meth c s₁ → c.maxLocals = maxL → Pc args s →
      W p l e (headSpec ws rm).room s m args below meth c s.heap [] 0 0 (vx_MQ below Qc XC args s mc ms free) (entryFrame m args maxL)) : vx_Met l y ws rm Pc Qc XC mc ms free := by
  refine MetFree.of_bodySF (code := cc) (maxLocals := maxL) (ret := ret) hy ?_ ?_
  · intro args s m h hn
    obtain ⟨m9, meth, c, hn9, h1, h2, h3, h4, -, h5, h6, -⟩ := Cond.codeWith_spec (atoms_spec (ws := ws) h _ (by rw [hw]; exact List.mem_cons_self))
    cases hn.symm.trans hn9
    exact ⟨meth, c, h1, h2, h3, h4, h5, h6⟩
  · intro p e s m args below meth c s₁ B hml hP _
    have hh0 : s₁.heap = s.heap := by rw [B.state]; rfl
    obtain ⟨t, a1, o, b1, b2, b3⟩ := body p e s m args below meth c s₁ B hml hP s₁ hh0 (Stand.of_body B)
    exact ⟨t, o, a1, b1, b2, b3⟩
section VK4
variable {g : CT} {h h1 : AH} {pc pc' : Nat} {lv : List (Nat × Value)} {st0 rest : List Value} {cc : ByteArray} {own C ref : String} {T : u_T} {N ci index a b : Nat} {ty : Nat → FieldType} {β : Type} {o : β} {oc : Out}
theorem met_ofF {D : va_G} {l : Launch} {y : MethodName} {bytes : ByteArray} {maxL fr lo : Nat} {rt : Option FieldType} {args : List Value} {hF : AH} {lv0 : List (Nat × Value)} (hy : plainFor y = true) (hl : l.stackTraces = false) (hlen : (lg_sl args).length ≤ maxL) (hlv : lv_args 0 args = lv0)
    (k : V (D, l, (y.cls, y, bytes, maxL, rt, fr, lo, []), args, h, hF, oc) h 0 lv0 []) : MetV D l y (Cond.code y bytes maxL rt) fr lo args h hF oc := by
  refine ⟨k.1, vx_ofWF (cc := bytes) (maxL := maxL) (ret := rt) hy rfl ?_⟩
  intro p e s m av below meth c s₁ B hml hT hv
  obtain ⟨rfl, E, w⟩ := hv
  have hown : s.vm.findClass y.cls = some m.cls := findClass_of_methodNamed B.named
  have hl9 := lv_entry args (n := maxL) hlen
  have hent : entryFrame m args.toArray maxL = F0 m 0 (lg_sl args ++ List.replicate (maxL - (lg_sl args).length) Slot.unset).toArray [] := lg_entry_eq ..
  rw [hent]
  have hz0 : aLe (g0 (D, l, (y.cls, y, bytes, maxL, rt, fr, lo, []), args, h, hF, oc)) h := aLe.rf h
  have hnil : c.exceptionTable.toList = [] := by
    cases hc9 : c.exceptionTable.toList with
    | nil => rfl
    | cons x xs => exact (hT x (by rw [hc9]; exact List.mem_cons_self)).elim
  have := k.2 hz0 p e s m below meth c s.heap [] _ ⟨B.exec, B.bytes, hml, B.returns, hown, B.notSynchronized, (name_of_methodNamed B.named B.method).1, hnil, hl, by rw [w.1]; exact w.2.1, w.1.symm, E⟩ w va_S.rf (by rw [← hlv]; exact hl9)
  rw [show aZ h - aZ (g0 (D, l, (y.cls, y, bytes, maxL, rt, fr, lo, []), args, h, hF, oc)) = 0 from Nat.sub_self _, show aS h - aS (g0 (D, l, (y.cls, y, bytes, maxL, rt, fr, lo, []), args, h, hF, oc)) = 0 from Nat.sub_self _] at this
  exact this
/-- .. of a method with handlers -/
theorem met_ofHF {D : va_G} {l : Launch} {y : MethodName} {bytes : ByteArray} {maxL fr lo : Nat} {rt : Option FieldType} {hh : List (Nat × Nat × Nat × Nat)} {args : List Value} {hF : AH} {lv0 : List (Nat × Value)} (hy : plainFor y = true) (hl : l.stackTraces = false) (hlen : (lg_sl args).length ≤ maxL) (hlv : lv_args 0 args = lv0)
    (k : V (D, l, (y.cls, y, bytes, maxL, rt, fr, lo, hh), args, h, hF, oc) h 0 lv0 []) : MetV D l y (Cond.codeWith y bytes maxL rt hh) fr lo args h hF oc := by
  refine ⟨k.1, vx_ofWHF (cc := bytes) (maxL := maxL) (ret := rt) (hh := hh) hy rfl ?_⟩
  intro p e s m av below meth c s₁ B hml hv
  obtain ⟨rfl, E, w⟩ := hv
  have hown : s.vm.findClass y.cls = some m.cls := findClass_of_methodNamed B.named
  have hl9 := lv_entry args (n := maxL) hlen
  have hent : entryFrame m args.toArray maxL = F0 m 0 (lg_sl args ++ List.replicate (maxL - (lg_sl args).length) Slot.unset).toArray [] := lg_entry_eq ..
  rw [hent]
  have hz0 : aLe (g0 (D, l, (y.cls, y, bytes, maxL, rt, fr, lo, hh), args, h, hF, oc)) h := aLe.rf h
  have htab : c.exceptionTable.toList = tableOf hh := vx_table (x := y) B (atoms_spec (ws := [Cond.codeWith y bytes maxL rt hh]) B.pre _ List.mem_cons_self)
  have := k.2 hz0 p e s m below meth c s.heap [] _ ⟨B.exec, B.bytes, hml, B.returns, hown, B.notSynchronized, (name_of_methodNamed B.named B.method).1, htab, hl, by rw [w.1]; exact w.2.1, w.1.symm, E⟩ w va_S.rf (by rw [← hlv]; exact hl9)
  rw [show aZ h - aZ (g0 (D, l, (y.cls, y, bytes, maxL, rt, fr, lo, hh), args, h, hF, oc)) = 0 from Nat.sub_self _, show aS h - aS (g0 (D, l, (y.cls, y, bytes, maxL, rt, fr, lo, hh), args, h, hF, oc)) = 0 from Nat.sub_self _] at this
  exact this
end VK4
