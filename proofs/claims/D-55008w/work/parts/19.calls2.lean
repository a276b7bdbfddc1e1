/-! ROWS over V: calls of nest mates, of inherited and overriding methods, through interfaces, of methods with handlers (printed by gen/mkcalls2.py) -/
set_option maxRecDepth 100000
set_option maxHeartbeats 1000000
section VK2
variable {g : CT} {h h1 : AH} {pc pc' : Nat} {lv : List (Nat × Value)} {st0 rest : List Value} {cc : ByteArray} {own C ref : String} {T : u_T} {N ci index a b : Nat} {ty : Nat → FieldType} {β : Type} {o : β} {oc : Out}
theorem cbase {p : Program} {s : State} {m : MethodId} {meth : Method} {c : Code} {cw : Cond} {fr lo maxL : Nat} (C0 : Cx g p s m meth c) (qc : cw ∈ lw_all) (hR : fr + 1 ≤ gFr g ∧ 8 + (maxL + 11) + lo ≤ gLo g) :
    (rmV fr lo h h1).cells = aZ h1 - aZ h ∧ (rmV fr lo h h1).slots = aS h1 - aS h ∧ (rmV fr lo h h1).frames + 1 ≤ (gRm g).frames ∧ 8 + (maxL + 11) + (rmV fr lo h h1).locals ≤ (gRm g).locals ∧ (∀ w ∈ [cw], ∀ (a' : Array Value) (U : State), s.WarmedH U.vm → w.before a' U = true) ∧ cw ∈ [cw] :=
  ⟨rfl, rfl, hR.1, hR.2, cw_one C0.2.2.2.2.2.2.2.2.2.2.2 (wA_l qc), List.mem_cons_self⟩
theorem clen {y : MethodName} {n : Nat} (h : (parseMethodDescriptor y.desc).map (fun d => d.parameters.length) = some n) : ∀ sig, parseMethodDescriptor y.desc = some sig → n = sig.parameters.length := by
  intro sig hs
  rw [hs] at h
  exact (Option.some.inj h).symm
/-- invokevirtual of a nest mate's private method -/
theorem k_VN {x y : MethodName} {bytes : ByteArray} {maxL fr lo n : Nat} {rt : Option FieldType} {As : List Value} (hc : gC g = cc) (ho : gO g = own) (hcl : vwCl[ci]? = some (C, T, N)) (hi : isC h ci b = true) (hM : MetV (gD g) (gL g) y (Cond.code y bytes maxL rt) fr lo (.ref b :: As) h h1 oc) {host : String} (qm : Cond.methodLinkNest own index y host ∈ lw_tbl) (qi : Cond.instanceMethod y ∈ lw_all) (qs : Cond.selects C y y ∈ lw_all) (qn : Cond.initialized y.cls ∈ lw_all) (qc : Cond.code y bytes maxL rt ∈ lw_all)
    (hy : y.cls ≠ "java/lang/invoke/MethodHandle" ∧ y.cls ≠ "java/lang/invoke/VarHandle" ∧ (parseMethodDescriptor y.desc).map (fun d => d.parameters.length) = some n) (hR : fr + 1 ≤ gFr g ∧ 8 + (maxL + 11) + lo ≤ gLo g) (hn : As.length = n) (hst : st0 = As.reverse ++ .ref b :: rest) (hw8 : (rest.map fun v => v.category).sum ≤ 8) (d : decode cc pc = .ok (.invokevirtual index, 3)) (hp : pc + 3 = pc')
    (kk : ∀ v, oc = .inl v → V g h1 pc' lv (v.toList ++ rest)) (kx : ∀ q, oc = .inr q → VX g h1 pc lv rest q) : V g h pc lv st0 := by
  subst hp; subst hc; subst ho
  have hle := hM.1
  have hF := le_out hle kk kx
  refine ⟨hle.tr hF, fun hz p e s m below meth c H locs ls C0 w S L => ?_⟩
  have E := C0.2.2.2.2.2.2.2.2.2.2.2
  have hroom := room_k hz hle hF
  obtain ⟨fs, he⟩ := isC_of hi
  exact v_cont (oc := oc) hz hle C0 S L (vx_runVN (host := host) (As := As) (b := b) (rest := rest) ⟨C0.1, C0.2.1, C0.2.2.1, C0.2.2.2.2.1, fun w hw => E.1 w hw _⟩ hM.2 ⟨⟨cbase C0 qc hR, E.word qc, E.word qn, ⟨hy.1, hy.2.1⟩, clen hy.2.2, (E.nw qm rfl).use rfl⟩, E.word qi, E.word qs⟩ ⟨vPc_blind, w.recv E hcl he, fun U hU hW => v_pre hz C0 w S U hU hW⟩ rfl hn L.1 hst (lv_room hw8) d ⟨hroom.1, hroom.2⟩) kk kx
/-- invokestatic of a nest mate's private method -/
theorem k_SN {x y : MethodName} {bytes : ByteArray} {maxL fr lo n : Nat} {rt : Option FieldType} {As : List Value} (hc : gC g = cc) (ho : gO g = own) (hM : MetV (gD g) (gL g) y (Cond.code y bytes maxL rt) fr lo As h h1 oc) {host : String} (qm : Cond.methodLinkNest own index y host ∈ lw_tbl) (qs : Cond.static y ∈ lw_all) (qn : Cond.initialized y.cls ∈ lw_all) (qc : Cond.code y bytes maxL rt ∈ lw_all)
    (hy : y.cls ≠ "java/lang/invoke/MethodHandle" ∧ y.cls ≠ "java/lang/invoke/VarHandle" ∧ (parseMethodDescriptor y.desc).map (fun d => d.parameters.length) = some n) (hR : fr + 1 ≤ gFr g ∧ 8 + (maxL + 11) + lo ≤ gLo g) (hn : As.length = n) (hst : st0 = As.reverse ++ rest) (hw8 : (rest.map fun v => v.category).sum ≤ 8) (d : decode cc pc = .ok (.invokestatic index, 3)) (hp : pc + 3 = pc')
    (kk : ∀ v, oc = .inl v → V g h1 pc' lv (v.toList ++ rest)) (kx : ∀ q, oc = .inr q → VX g h1 pc lv rest q) : V g h pc lv st0 := by
  subst hp; subst hc; subst ho
  have hle := hM.1
  have hF := le_out hle kk kx
  refine ⟨hle.tr hF, fun hz p e s m below meth c H locs ls C0 w S L => ?_⟩
  have E := C0.2.2.2.2.2.2.2.2.2.2.2
  have hroom := room_k hz hle hF
  exact v_cont (oc := oc) hz hle C0 S L (vx_runSN (host := host) (As := As) (rest := rest) ⟨C0.1, C0.2.1, C0.2.2.1, C0.2.2.2.2.1, fun w hw => E.1 w hw _⟩ hM.2 ⟨⟨cbase C0 qc hR, E.word qc, E.word qn, ⟨hy.1, hy.2.1⟩, clen hy.2.2, (E.nw qm rfl).use rfl⟩, E.word qs, trivial⟩ ⟨vPc_blind, fun U hU hW => v_pre hz C0 w S U hU hW⟩ rfl hn L.1 hst (lv_room hw8) d ⟨hroom.1, hroom.2⟩) kk kx
/-- a nest mate's private constructor -/
theorem k_IN {x y : MethodName} {bytes : ByteArray} {maxL fr lo n : Nat} {As : List Value} (hc : gC g = cc) (ho : gO g = own) (hM : MetV (gD g) (gL g) y (Cond.code y bytes maxL none) fr lo (.ref b :: As) h h1 oc) {host : String} (qm : Cond.methodLinkNest own index y host ∈ lw_tbl) (qi : Cond.instanceMethod y ∈ lw_all) (qn : Cond.initialized y.cls ∈ lw_all) (hy1 : y.name = "<init>") (qc : Cond.code y bytes maxL none ∈ lw_all)
    (hy : y.cls ≠ "java/lang/invoke/MethodHandle" ∧ y.cls ≠ "java/lang/invoke/VarHandle" ∧ (parseMethodDescriptor y.desc).map (fun d => d.parameters.length) = some n) (hR : fr + 1 ≤ gFr g ∧ 8 + (maxL + 11) + lo ≤ gLo g) (hn : As.length = n) (hst : st0 = As.reverse ++ .ref b :: rest) (hw8 : (rest.map fun v => v.category).sum ≤ 8) (d : decode cc pc = .ok (.invokespecial index, 3)) (hp : pc + 3 = pc')
    (kk : ∀ v, oc = .inl v → V g h1 pc' lv (v.toList ++ rest)) (kx : ∀ q, oc = .inr q → VX g h1 pc lv rest q) : V g h pc lv st0 := by
  subst hp; subst hc; subst ho
  have hle := hM.1
  have hF := le_out hle kk kx
  refine ⟨hle.tr hF, fun hz p e s m below meth c H locs ls C0 w S L => ?_⟩
  have E := C0.2.2.2.2.2.2.2.2.2.2.2
  have hroom := room_k hz hle hF
  exact v_cont (oc := oc) hz hle C0 S L (vx_runIN (host := host) (As := As) (b := b) (rest := rest) ⟨C0.1, C0.2.1, C0.2.2.1, C0.2.2.2.2.1, fun w hw => E.1 w hw _⟩ hM.2 ⟨⟨cbase C0 qc hR, E.word qc, E.word qn, ⟨hy.1, hy.2.1⟩, clen hy.2.2, (E.nw qm rfl).use rfl⟩, hy1, E.word qi⟩ ⟨vPc_blind, fun U hU hW => v_pre hz C0 w S U hU hW⟩ rfl hn L.1 hst (lv_room hw8) d ⟨hroom.1, hroom.2⟩) kk kx
/-- invokevirtual of x, declared by owner; y runs -/
theorem k_U {x y : MethodName} {bytes : ByteArray} {maxL fr lo n : Nat} {rt : Option FieldType} {As : List Value} (hc : gC g = cc) (ho : gO g = own) (hcl : vwCl[ci]? = some (C, T, N)) (hi : isC h ci b = true) (hM : MetV (gD g) (gL g) y (Cond.code y bytes maxL rt) fr lo (.ref b :: As) h h1 oc) {owner : String} (qm : Cond.methodLink own index x ∈ wA) (qsm : Cond.sameMethod x.cls owner x.name x.desc ∈ wA) (qd : Cond.declares ⟨owner, x.name, x.desc⟩ ∈ lw_tbl ∨ (Cond.instanceMethod ⟨owner, x.name, x.desc⟩ ∈ lw_all ∧ ∃ b0 m0 r0, Cond.code ⟨owner, x.name, x.desc⟩ b0 m0 r0 ∈ lw_all)) (qs : Cond.selects C x y ∈ lw_all) (qi : Cond.instanceMethod y ∈ lw_all) (qn : Cond.initialized y.cls ∈ lw_all) (qc : Cond.code y bytes maxL rt ∈ lw_all)
    (hy : owner ≠ "java/lang/invoke/MethodHandle" ∧ owner ≠ "java/lang/invoke/VarHandle" ∧ (parseMethodDescriptor x.desc).map (fun d => d.parameters.length) = some n) (hR : fr + 1 ≤ gFr g ∧ 8 + (maxL + 11) + lo ≤ gLo g) (hn : As.length = n) (hst : st0 = As.reverse ++ .ref b :: rest) (hw8 : (rest.map fun v => v.category).sum ≤ 8) (d : decode cc pc = .ok (.invokevirtual index, 3)) (hp : pc + 3 = pc')
    (kk : ∀ v, oc = .inl v → V g h1 pc' lv (v.toList ++ rest)) (kx : ∀ q, oc = .inr q → VX g h1 pc lv rest q) : V g h pc lv st0 := by
  subst hp; subst hc; subst ho
  have hle := hM.1
  have hF := le_out hle kk kx
  refine ⟨hle.tr hF, fun hz p e s m below meth c H locs ls C0 w S L => ?_⟩
  have E := C0.2.2.2.2.2.2.2.2.2.2.2
  have hroom := room_k hz hle hF
  obtain ⟨fs, he⟩ := isC_of hi
  exact v_cont (oc := oc) hz hle C0 S L (vx_runU (owner := owner) (x := x) (As := As) (b := b) (rest := rest) ⟨C0.1, C0.2.1, C0.2.2.1, C0.2.2.2.2.1, fun w hw => E.1 w hw _⟩ hM.2 ⟨cbase C0 qc hR, E.word qc, E.word qn, ⟨hy.1, hy.2.1⟩, clen hy.2.2, E.1 _ qm _, E.1 _ qsm _, qd.elim (fun q => va_Decl.abs (E.nw q rfl)) (fun q => by obtain ⟨q1, b0, m0, r0, q2⟩ := q; exact va_Decl.of (E.word (a := (gV g).toArray) q1) (E.word q2)), E.word qs, E.word qi⟩ ⟨vPc_blind, w.recv E hcl he, fun U hU hW => v_pre hz C0 w S U hU hW⟩ rfl hn L.1 hst (lv_room hw8) d ⟨hroom.1, hroom.2⟩) kk kx
/-- invokespecial of a superclass's method -/
theorem k_SU {x y : MethodName} {bytes : ByteArray} {maxL fr lo n : Nat} {rt : Option FieldType} {As : List Value} (hc : gC g = cc) (ho : gO g = own) (hcl : vwCl[ci]? = some (C, T, N)) (hi : isC h ci b = true) (hM : MetV (gD g) (gL g) y (Cond.code y bytes maxL rt) fr lo (.ref b :: As) h h1 oc) (hni : y.name ≠ "<init>") (qm : Cond.methodLink own index y ∈ wA) (qsm : Cond.sameMethod y.cls y.cls y.name y.desc ∈ wA) (qsu : Cond.superclass own y.cls ∈ lw_all) (qi : Cond.instanceMethod y ∈ lw_all) (qn : Cond.initialized y.cls ∈ lw_all) (qc : Cond.code y bytes maxL rt ∈ lw_all)
    (hy : y.cls ≠ "java/lang/invoke/MethodHandle" ∧ y.cls ≠ "java/lang/invoke/VarHandle" ∧ (parseMethodDescriptor y.desc).map (fun d => d.parameters.length) = some n) (hR : fr + 1 ≤ gFr g ∧ 8 + (maxL + 11) + lo ≤ gLo g) (hn : As.length = n) (hst : st0 = As.reverse ++ .ref b :: rest) (hw8 : (rest.map fun v => v.category).sum ≤ 8) (d : decode cc pc = .ok (.invokespecial index, 3)) (hp : pc + 3 = pc')
    (kk : ∀ v, oc = .inl v → V g h1 pc' lv (v.toList ++ rest)) (kx : ∀ q, oc = .inr q → VX g h1 pc lv rest q) : V g h pc lv st0 := by
  subst hp; subst hc; subst ho
  have hle := hM.1
  have hF := le_out hle kk kx
  refine ⟨hle.tr hF, fun hz p e s m below meth c H locs ls C0 w S L => ?_⟩
  have E := C0.2.2.2.2.2.2.2.2.2.2.2
  have hroom := room_k hz hle hF
  obtain ⟨fs, he⟩ := isC_of hi
  exact v_cont (oc := oc) hz hle C0 S L (vx_runSU (As := As) (b := b) (rest := rest) (E.kK.1 ci _ hcl).2 ⟨C0.1, C0.2.1, C0.2.2.1, C0.2.2.2.2.1, fun w hw => E.1 w hw _⟩ hM.2 ⟨cbase C0 qc hR, E.1 _ qm _, E.1 _ qsm _, E.word qsu, E.word qi, E.word qn, E.word qc, hni, clen hy.2.2⟩ ⟨vPc_blind, w.recv E hcl he, fun U hU hW => v_pre hz C0 w S U hU hW⟩ rfl hn L.1 hst (lv_room hw8) d ⟨hroom.1, hroom.2⟩) kk kx
/-- invokeinterface of x; y runs -/
theorem k_F {x y : MethodName} {bytes : ByteArray} {maxL fr lo n : Nat} {rt : Option FieldType} {As : List Value} (hc : gC g = cc) (ho : gO g = own) (hcl : vwCl[ci]? = some (C, T, N)) (hi : isC h ci b = true) (hM : MetV (gD g) (gL g) y (Cond.code y bytes maxL rt) fr lo (.ref b :: As) h h1 oc) {count : Nat} (qm : Cond.methodLink own index x ∈ wA) (qf : (C, x, y) ∈ fwL) (qs : Cond.selects C x y ∈ lw_all) (qi : Cond.instanceMethod y ∈ lw_all) (qn : Cond.initialized y.cls ∈ lw_all) (qc : Cond.code y bytes maxL rt ∈ lw_all)
    (hy : x.cls ≠ "java/lang/invoke/MethodHandle" ∧ x.cls ≠ "java/lang/invoke/VarHandle" ∧ (parseMethodDescriptor x.desc).map (fun d => d.parameters.length) = some n) (hR : fr + 1 ≤ gFr g ∧ 8 + (maxL + 11) + lo ≤ gLo g) (hn : As.length = n) (hst : st0 = As.reverse ++ .ref b :: rest) (hw8 : (rest.map fun v => v.category).sum ≤ 8) (d : decode cc pc = .ok (.invokeinterface index count, 5)) (hp : pc + 5 = pc')
    (kk : ∀ v, oc = .inl v → V g h1 pc' lv (v.toList ++ rest)) (kx : ∀ q, oc = .inr q → VX g h1 pc lv rest q) : V g h pc lv st0 := by
  subst hp; subst hc; subst ho
  have hle := hM.1
  have hF := le_out hle kk kx
  refine ⟨hle.tr hF, fun hz p e s m below meth c H locs ls C0 w S L => ?_⟩
  have E := C0.2.2.2.2.2.2.2.2.2.2.2
  have hroom := room_k hz hle hF
  obtain ⟨fs, he⟩ := isC_of hi
  exact v_cont5 (oc := oc) hz hle C0 S L (vx_runF (x := x) (count := count) (As := As) (b := b) (rest := rest) (E.kK.1 ci _ hcl).2 ⟨C0.1, C0.2.1, C0.2.2.1, C0.2.2.2.2.1, fun w hw => E.1 w hw _⟩ hM.2 ⟨cbase C0 qc hR, E.1 _ qm _, va_any rfl (E.2.2.1 _ qf).1, va_any rfl (E.2.2.1 _ qf).2.1, E.word qs, E.word qi, va_any rfl (E.2.2.1 _ qf).2.2.1, va_any rfl (E.2.2.1 _ qf).2.2.2.1, va_any rfl (E.2.2.1 _ qf).2.2.2.2, E.word qn, E.word qc, ⟨hy.1, hy.2.1⟩, clen hy.2.2⟩ ⟨vPc_blind, w.recv E hcl he, fun U hU hW => v_pre hz C0 w S U hU hW⟩ rfl hn L.1 hst (lv_room hw8) d ⟨hroom.1, hroom.2⟩) kk kx
/-- invokevirtual of a method with handlers -/
theorem k_VX {hh : List (Nat × Nat × Nat × Nat)} {x y : MethodName} {bytes : ByteArray} {maxL fr lo n : Nat} {rt : Option FieldType} {As : List Value} (hc : gC g = cc) (ho : gO g = own) (hcl : vwCl[ci]? = some (C, T, N)) (hi : isC h ci b = true) (hM : MetV (gD g) (gL g) y (Cond.codeWith y bytes maxL rt hh) fr lo (.ref b :: As) h h1 oc) (qm : Cond.methodLink own index y ∈ wA) (qi : Cond.instanceMethod y ∈ lw_all) (qs : Cond.selects C y y ∈ lw_all) (qn : Cond.initialized y.cls ∈ lw_all) (qc : Cond.codeWith y bytes maxL rt hh ∈ lw_all)
    (hy : y.cls ≠ "java/lang/invoke/MethodHandle" ∧ y.cls ≠ "java/lang/invoke/VarHandle" ∧ (parseMethodDescriptor y.desc).map (fun d => d.parameters.length) = some n) (hR : fr + 1 ≤ gFr g ∧ 8 + (maxL + 11) + lo ≤ gLo g) (hn : As.length = n) (hst : st0 = As.reverse ++ .ref b :: rest) (hw8 : (rest.map fun v => v.category).sum ≤ 8) (d : decode cc pc = .ok (.invokevirtual index, 3)) (hp : pc + 3 = pc')
    (kk : ∀ v, oc = .inl v → V g h1 pc' lv (v.toList ++ rest)) (kx : ∀ q, oc = .inr q → VX g h1 pc lv rest q) : V g h pc lv st0 := by
  subst hp; subst hc; subst ho
  have hle := hM.1
  have hF := le_out hle kk kx
  refine ⟨hle.tr hF, fun hz p e s m below meth c H locs ls C0 w S L => ?_⟩
  have E := C0.2.2.2.2.2.2.2.2.2.2.2
  have hroom := room_k hz hle hF
  obtain ⟨fs, he⟩ := isC_of hi
  exact v_cont (oc := oc) hz hle C0 S L (vx_runVX (As := As) (b := b) (rest := rest) ⟨C0.1, C0.2.1, C0.2.2.1, C0.2.2.2.2.1, fun w hw => E.1 w hw _⟩ hM.2 ⟨cbase C0 qc hR, E.word qc, E.word qn, ⟨hy.1, hy.2.1⟩, clen hy.2.2, E.1 _ qm _, E.word qi, E.word qs⟩ ⟨vPc_blind, w.recv E hcl he, fun U hU hW => v_pre hz C0 w S U hU hW⟩ rfl hn L.1 hst (lv_room hw8) d ⟨hroom.1, hroom.2⟩) kk kx
/-- invokestatic of a method with handlers -/
theorem k_SX {hh : List (Nat × Nat × Nat × Nat)} {x y : MethodName} {bytes : ByteArray} {maxL fr lo n : Nat} {rt : Option FieldType} {As : List Value} (hc : gC g = cc) (ho : gO g = own) (hM : MetV (gD g) (gL g) y (Cond.codeWith y bytes maxL rt hh) fr lo As h h1 oc) (qm : Cond.methodLink own index y ∈ wA) (qs : Cond.static y ∈ lw_all) (qn : Cond.initialized y.cls ∈ lw_all) (qc : Cond.codeWith y bytes maxL rt hh ∈ lw_all)
    (hy : y.cls ≠ "java/lang/invoke/MethodHandle" ∧ y.cls ≠ "java/lang/invoke/VarHandle" ∧ (parseMethodDescriptor y.desc).map (fun d => d.parameters.length) = some n) (hR : fr + 1 ≤ gFr g ∧ 8 + (maxL + 11) + lo ≤ gLo g) (hn : As.length = n) (hst : st0 = As.reverse ++ rest) (hw8 : (rest.map fun v => v.category).sum ≤ 8) (d : decode cc pc = .ok (.invokestatic index, 3)) (hp : pc + 3 = pc')
    (kk : ∀ v, oc = .inl v → V g h1 pc' lv (v.toList ++ rest)) (kx : ∀ q, oc = .inr q → VX g h1 pc lv rest q) : V g h pc lv st0 := by
  subst hp; subst hc; subst ho
  have hle := hM.1
  have hF := le_out hle kk kx
  refine ⟨hle.tr hF, fun hz p e s m below meth c H locs ls C0 w S L => ?_⟩
  have E := C0.2.2.2.2.2.2.2.2.2.2.2
  have hroom := room_k hz hle hF
  exact v_cont (oc := oc) hz hle C0 S L (vx_runSX (As := As) (rest := rest) ⟨C0.1, C0.2.1, C0.2.2.1, C0.2.2.2.2.1, fun w hw => E.1 w hw _⟩ hM.2 ⟨cbase C0 qc hR, E.word qc, E.word qn, ⟨hy.1, hy.2.1⟩, clen hy.2.2, E.1 _ qm _, E.word qs⟩ ⟨vPc_blind, fun U hU hW => v_pre hz C0 w S U hU hW⟩ rfl hn L.1 hst (lv_room hw8) d ⟨hroom.1, hroom.2⟩) kk kx
end VK2
