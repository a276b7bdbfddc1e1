/-! ROWS over V: calls -/
set_option maxRecDepth 100000
set_option maxHeartbeats 1000000
section VK
variable {g : CT} {h h1 : AH} {pc pc' : Nat} {lv : List (Nat × Value)} {st0 rest : List Value} {cc : ByteArray} {own C ref : String} {T : u_T} {N ci index a b : Nat} {ty : Nat → FieldType} {β : Type} {o : β} {oc : Out}
theorem v_cont {p : Program} {e : Env} {s : State} {m : MethodId} {below : List Frame} {meth : Method} {c : Code} {H : Heap} {locs : List Loc} {ls : Array Slot} {av : Array Value} (hz : aLe (g0 g) h) (hle : aLe h h1) (C0 : Cx g p s m meth c) (S : va_S (gA g) s.heap H locs) (L : lv_has ls (gN g) lv)
    (hr : vx_Run p (gL g) e (gRm g) s m (gV g).toArray below meth c H locs (aZ h - aZ (g0 g)) (aS h - aS (g0 g)) (aZ h1 - aZ h) (aS h1 - aS h) (F0 m pc ls st0) rest (vQc (gD g) h h1 oc av) (vXc (gD g) h h1 oc) (fun q => aB h ≤ q))
    (kk : ∀ v, oc = .inl v → V g h1 (pc + 3) lv (v.toList ++ rest)) (kx : ∀ q, oc = .inr q → VX g h1 pc lv rest q) :
    W p (gL g) e (gRm g) s m (gV g).toArray below meth c H locs (aZ h - aZ (g0 g)) (aS h - aS (g0 g)) (gQ g below s) (F0 m pc ls st0) := by
  have hc1 : aZ h - aZ (g0 g) + (aZ h1 - aZ h) = aZ h1 - aZ (g0 g) := by have := hz.1; have := hle.1; omega
  have hc2 : aS h - aS (g0 g) + (aS h1 - aS h) = aS h1 - aS (g0 g) := by have := hz.2.1; have := hle.2.1; omega
  have hb9 : aB (g0 g) = aB h := hz.2.2.1
  intro T hT X
  rcases hr T hT X with ⟨v, st₀, t, T', L9, e0, X', hL, e1, e2, ⟨v', ho, hv, w1, hF⟩, st⟩ | ⟨q, st₀, t, T', L9, E, ce, e0, X', hL, e1, e2, ⟨ho, w1, hF, hxc⟩, hce, hcv, hcl, st⟩
  · cases hv
    obtain ⟨k1, k2, k3⟩ := vx_keep (A0 := gA g) (A1 := fun q => aB h ≤ q) e0 e1 S (fun q _ hq => by show aB (g0 g) ≤ q; rw [hb9]; exact hq) (fun q hq => by show aB (g0 g) ≤ q; rw [hb9]; exact hq) hL hF
    have hal : s.vm.Alike t.vm := by rw [← e2]; exact X'.warmed.alike
    rw [hc1, hc2] at X'
    obtain ⟨t2, a1, b1⟩ := (kk v ho).2 (hz.tr hle) p e s m below meth c T'.heap (locs ++ L9) ls C0 (by rw [e1]; exact w1.vm hal.symm) k3 L T' rfl X'
    exact ⟨t2, st t2 a1, b1⟩
  · obtain ⟨k1, k2, k3⟩ := vx_keep (A0 := gA g) (A1 := fun q => aB h ≤ q) e0 e1 S (fun q _ hq => by show aB (g0 g) ≤ q; rw [hb9]; exact hq) (fun q hq => by show aB (g0 g) ≤ q; rw [hb9]; exact hq) hL hF
    have hal : s.vm.Alike t.vm := by rw [← e2]; exact X'.warmed.alike
    rw [hc1, hc2] at X'
    obtain ⟨t2, a1, b1⟩ := (kx q ho).2 (hz.tr hle) p e s m below meth c T'.heap (locs ++ L9) ls C0 (by rw [e1]; exact w1.vm hal.symm) k3 L T' rfl X'
    exact ⟨t2, st.trans a1, b1⟩
theorem v_cont5 {p : Program} {e : Env} {s : State} {m : MethodId} {below : List Frame} {meth : Method} {c : Code} {H : Heap} {locs : List Loc} {ls : Array Slot} {av : Array Value} (hz : aLe (g0 g) h) (hle : aLe h h1) (C0 : Cx g p s m meth c) (S : va_S (gA g) s.heap H locs) (L : lv_has ls (gN g) lv)
    (hr : vx_Run5 p (gL g) e (gRm g) s m (gV g).toArray below meth c H locs (aZ h - aZ (g0 g)) (aS h - aS (g0 g)) (aZ h1 - aZ h) (aS h1 - aS h) (F0 m pc ls st0) rest (vQc (gD g) h h1 oc av) (vXc (gD g) h h1 oc) (fun q => aB h ≤ q))
    (kk : ∀ v, oc = .inl v → V g h1 (pc + 5) lv (v.toList ++ rest)) (kx : ∀ q, oc = .inr q → VX g h1 pc lv rest q) :
    W p (gL g) e (gRm g) s m (gV g).toArray below meth c H locs (aZ h - aZ (g0 g)) (aS h - aS (g0 g)) (gQ g below s) (F0 m pc ls st0) := by
  have hc1 : aZ h - aZ (g0 g) + (aZ h1 - aZ h) = aZ h1 - aZ (g0 g) := by have := hz.1; have := hle.1; omega
  have hc2 : aS h - aS (g0 g) + (aS h1 - aS h) = aS h1 - aS (g0 g) := by have := hz.2.1; have := hle.2.1; omega
  have hb9 : aB (g0 g) = aB h := hz.2.2.1
  intro T hT X
  rcases hr T hT X with ⟨v, st₀, t, T', L9, e0, X', hL, e1, e2, ⟨v', ho, hv, w1, hF⟩, st⟩ | ⟨q, st₀, t, T', L9, E, ce, e0, X', hL, e1, e2, ⟨ho, w1, hF, hxc⟩, hce, hcv, hcl, st⟩
  · cases hv
    obtain ⟨k1, k2, k3⟩ := vx_keep (A0 := gA g) (A1 := fun q => aB h ≤ q) e0 e1 S (fun q _ hq => by show aB (g0 g) ≤ q; rw [hb9]; exact hq) (fun q hq => by show aB (g0 g) ≤ q; rw [hb9]; exact hq) hL hF
    have hal : s.vm.Alike t.vm := by rw [← e2]; exact X'.warmed.alike
    rw [hc1, hc2] at X'
    obtain ⟨t2, a1, b1⟩ := (kk v ho).2 (hz.tr hle) p e s m below meth c T'.heap (locs ++ L9) ls C0 (by rw [e1]; exact w1.vm hal.symm) k3 L T' rfl X'
    exact ⟨t2, st t2 a1, b1⟩
  · obtain ⟨k1, k2, k3⟩ := vx_keep (A0 := gA g) (A1 := fun q => aB h ≤ q) e0 e1 S (fun q _ hq => by show aB (g0 g) ≤ q; rw [hb9]; exact hq) (fun q hq => by show aB (g0 g) ≤ q; rw [hb9]; exact hq) hL hF
    have hal : s.vm.Alike t.vm := by rw [← e2]; exact X'.warmed.alike
    rw [hc1, hc2] at X'
    obtain ⟨t2, a1, b1⟩ := (kx q ho).2 (hz.tr hle) p e s m below meth c T'.heap (locs ++ L9) ls C0 (by rw [e1]; exact w1.vm hal.symm) k3 L T' rfl X'
    exact ⟨t2, st.trans a1, b1⟩
theorem vPc_blind {D : va_G} {h0 : AH} {args : List Value} : FrameBlind (vPc D h0 args) := by
  intro a U g mk ⟨h1, h2, h3⟩
  exact ⟨h1, h2.at (U := U.calling g mk a) (State.WarmedH.refl U) (fun _ _ _ => rfl), h3.vm (Vm.Alike.refl U.vm)⟩
/-- what a callee's start asks, at any state with this heap -/
theorem v_pre {p : Program} {s : State} {m : MethodId} {meth : Method} {c : Code} {H : Heap} {locs : List Loc} {args : List Value} (hz : aLe (g0 g) h) (C0 : Cx g p s m meth c) (w : Wc (gD g) h s H) (S : va_S (gA g) s.heap H locs) (U : State) (hU : U.heap = H) (hW : s.WarmedH U.vm) : vPc (gD g) h args args.toArray U := by
  refine ⟨rfl, ?_, ?_⟩
  · rw [← hz.2.2.1, ← hz.2.2.2]
    exact C0.2.2.2.2.2.2.2.2.2.2.2.at hW (fun a h1 h2 => by rw [hU]; exact S.2.1 a h1 h2)
  · rw [hU]
    exact w.vm hW.alike
theorem cw_one {s : State} {w : Cond} {D : va_G} {B : Nat} {E : Nat → Option Nat} (En : Ent D B E s) (hw : w ∈ wA) : ∀ w' ∈ [w], ∀ (a' : Array Value) (U : State), s.WarmedH U.vm → w'.before a' U = true := by
  intro w' h' a' U hW
  rw [List.mem_singleton.mp h']
  exact word_at hW (wA_good hw) (En.1 w hw #[])
theorem codeB {p : Program} {s : State} {m : MethodId} {meth : Method} {c : Code} {y : MethodName} {bytes : ByteArray} {maxL fr lo n : Nat} {rt : Option FieldType} (C0 : Cx g p s m meth c) (qc : Cond.code y bytes maxL rt ∈ lw_all) (qn : Cond.initialized y.cls ∈ lw_all) (qm : Cond.methodLink (gO g) index y ∈ wA)
    (hy : y.cls ≠ "java/lang/invoke/MethodHandle" ∧ y.cls ≠ "java/lang/invoke/VarHandle" ∧ (parseMethodDescriptor y.desc).map (fun d => d.parameters.length) = some n) (hR : fr + 1 ≤ gFr g ∧ 8 + (maxL + 11) + lo ≤ gLo g) :
    CallB (gRm g) s (gV g).toArray (gO g) index y bytes maxL rt [Cond.code y bytes maxL rt] (rmV fr lo h h1) (aZ h1 - aZ h) (aS h1 - aS h) n := by
  have E := C0.2.2.2.2.2.2.2.2.2.2.2
  refine ⟨rfl, rfl, hR.1, hR.2, cw_one E (wA_l qc), List.mem_cons_self, E.word qc, E.word qn, ⟨hy.1, hy.2.1⟩, fun sig hs => ?_, E.1 _ qm _⟩
  have h2 := hy.2.2
  rw [hs] at h2
  exact (Option.some.inj h2).symm
theorem room_k {hF : AH} {h0 : AH} (h1' : aLe h0 h) (h2 : aLe h h1) (h3 : aLe h1 hF) : aZ h - aZ h0 + (aZ h1 - aZ h) ≤ aZ hF - aZ h0 ∧ aS h - aS h0 + (aS h1 - aS h) ≤ aS hF - aS h0 := by
  have := h1'.1; have := h1'.2.1; have := h2.1; have := h2.2.1; have := h3.1; have := h3.2.1
  omega
theorem le_out (hh : aLe h h1) (kk : ∀ v, oc = .inl v → V g h1 pc' lv (v.toList ++ rest)) (kx : ∀ q, oc = .inr q → VX g h1 pc lv rest q) : aLe h1 (gF g) := by
  cases hoc : oc with
  | inl v => exact (kk v hoc).1
  | inr q => exact (kx q hoc).1
/-- invokevirtual: y runs; the receiver's class C is y's own -/
theorem k_V {y : MethodName} {bytes : ByteArray} {maxL fr lo n : Nat} {rt : Option FieldType} {As : List Value} (hc : gC g = cc) (ho : gO g = own) (hcl : vwCl[ci]? = some (C, T, N)) (hi : isC h ci b = true)
    (hM : MetV (gD g) (gL g) y (Cond.code y bytes maxL rt) fr lo (.ref b :: As) h h1 oc) (qm : Cond.methodLink own index y ∈ wA) (qi : Cond.instanceMethod y ∈ lw_all) (qs : Cond.selects C y y ∈ wA) (qn : Cond.initialized y.cls ∈ lw_all) (qc : Cond.code y bytes maxL rt ∈ lw_all)
    (hy : y.cls ≠ "java/lang/invoke/MethodHandle" ∧ y.cls ≠ "java/lang/invoke/VarHandle" ∧ (parseMethodDescriptor y.desc).map (fun d => d.parameters.length) = some n) (hR : fr + 1 ≤ gFr g ∧ 8 + (maxL + 11) + lo ≤ gLo g) (hn : As.length = n) (hst : st0 = As.reverse ++ .ref b :: rest) (hw8 : (rest.map fun v => v.category).sum ≤ 8) (d : decode cc pc = .ok (.invokevirtual index, 3)) (hp : pc + 3 = pc')
    (kk : ∀ v, oc = .inl v → V g h1 pc' lv (v.toList ++ rest)) (kx : ∀ q, oc = .inr q → VX g h1 pc lv rest q) : V g h pc lv st0 := by
  subst hp; subst hc; subst ho
  have hle := hM.1
  have hF := le_out hle kk kx
  refine ⟨hle.tr hF, fun hz p e s m below meth c H locs ls C0 w S L => ?_⟩
  have E := C0.2.2.2.2.2.2.2.2.2.2.2
  obtain ⟨fs, he⟩ := isC_of hi
  have hroom := room_k hz hle hF
  exact v_cont (oc := oc) hz hle C0 S L (vx_runV (As := As) (b := b) (rest := rest) ⟨C0.1, C0.2.1, C0.2.2.1, C0.2.2.2.2.1, fun w hw => E.1 w hw _⟩ hM.2 ⟨codeB C0 qc qn qm hy hR, E.word qi, E.1 _ qs _⟩ ⟨vPc_blind, w.recv E hcl he, fun U hU hW => v_pre hz C0 w S U hU hW⟩ rfl hn L.1 hst (lv_room hw8) d ⟨hroom.1, hroom.2⟩) kk kx
/-- invokestatic -/
theorem k_S {y : MethodName} {bytes : ByteArray} {maxL fr lo n : Nat} {rt : Option FieldType} {As : List Value} (hc : gC g = cc) (ho : gO g = own)
    (hM : MetV (gD g) (gL g) y (Cond.code y bytes maxL rt) fr lo As h h1 oc) (qm : Cond.methodLink own index y ∈ wA) (qs : Cond.static y ∈ lw_all) (qn : Cond.initialized y.cls ∈ lw_all) (qc : Cond.code y bytes maxL rt ∈ lw_all)
    (hy : y.cls ≠ "java/lang/invoke/MethodHandle" ∧ y.cls ≠ "java/lang/invoke/VarHandle" ∧ (parseMethodDescriptor y.desc).map (fun d => d.parameters.length) = some n) (hR : fr + 1 ≤ gFr g ∧ 8 + (maxL + 11) + lo ≤ gLo g) (hn : As.length = n) (hst : st0 = As.reverse ++ rest) (hw8 : (rest.map fun v => v.category).sum ≤ 8) (d : decode cc pc = .ok (.invokestatic index, 3)) (hp : pc + 3 = pc')
    (kk : ∀ v, oc = .inl v → V g h1 pc' lv (v.toList ++ rest)) (kx : ∀ q, oc = .inr q → VX g h1 pc lv rest q) : V g h pc lv st0 := by
  subst hp; subst hc; subst ho
  have hle := hM.1
  have hF := le_out hle kk kx
  refine ⟨hle.tr hF, fun hz p e s m below meth c H locs ls C0 w S L => ?_⟩
  have E := C0.2.2.2.2.2.2.2.2.2.2.2
  have hroom := room_k hz hle hF
  exact v_cont (oc := oc) hz hle C0 S L (vx_runS (As := As) (rest := rest) ⟨C0.1, C0.2.1, C0.2.2.1, C0.2.2.2.2.1, fun w hw => E.1 w hw _⟩ hM.2 ⟨codeB C0 qc qn qm hy hR, E.word qs⟩ ⟨vPc_blind, fun U hU hW => v_pre hz C0 w S U hU hW⟩ rfl hn L.1 hst (lv_room hw8) d ⟨hroom.1, hroom.2⟩) kk kx
/-- invokespecial of a constructor -/
theorem k_I {y : MethodName} {bytes : ByteArray} {maxL fr lo n : Nat} {As : List Value} (hc : gC g = cc) (ho : gO g = own)
    (hM : MetV (gD g) (gL g) y (Cond.code y bytes maxL none) fr lo (.ref b :: As) h h1 oc) (qm : Cond.methodLink own index y ∈ wA) (qi : Cond.instanceMethod y ∈ lw_all) (qn : Cond.initialized y.cls ∈ lw_all) (qc : Cond.code y bytes maxL none ∈ lw_all) (hy1 : y.name = "<init>")
    (hy : y.cls ≠ "java/lang/invoke/MethodHandle" ∧ y.cls ≠ "java/lang/invoke/VarHandle" ∧ (parseMethodDescriptor y.desc).map (fun d => d.parameters.length) = some n) (hR : fr + 1 ≤ gFr g ∧ 8 + (maxL + 11) + lo ≤ gLo g) (hn : As.length = n) (hst : st0 = As.reverse ++ .ref b :: rest) (hw8 : (rest.map fun v => v.category).sum ≤ 8) (d : decode cc pc = .ok (.invokespecial index, 3)) (hp : pc + 3 = pc')
    (kk : ∀ v, oc = .inl v → V g h1 pc' lv (v.toList ++ rest)) (kx : ∀ q, oc = .inr q → VX g h1 pc lv rest q) : V g h pc lv st0 := by
  subst hp; subst hc; subst ho
  have hle := hM.1
  have hF := le_out hle kk kx
  refine ⟨hle.tr hF, fun hz p e s m below meth c H locs ls C0 w S L => ?_⟩
  have E := C0.2.2.2.2.2.2.2.2.2.2.2
  have hroom := room_k hz hle hF
  exact v_cont (oc := oc) hz hle C0 S L (vx_runI (As := As) (b := b) (rest := rest) ⟨C0.1, C0.2.1, C0.2.2.1, C0.2.2.2.2.1, fun w hw => E.1 w hw _⟩ hM.2 ⟨codeB C0 qc qn qm hy hR, hy1, E.word qi⟩ ⟨vPc_blind, fun U hU hW => v_pre hz C0 w S U hU hW⟩ rfl hn L.1 hst (lv_room hw8) d ⟨hroom.1, hroom.2⟩) kk kx
end VK
