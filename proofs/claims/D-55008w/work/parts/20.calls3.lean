/-! ROWS over V: default methods of an interface; stores into a nest mate's field; typed calls come behind -/
set_option maxRecDepth 100000
set_option maxHeartbeats 1000000
section VK3
variable {g : CT} {h h1 : AH} {pc pc' : Nat} {lv : List (Nat × Value)} {st0 rest : List Value} {cc : ByteArray} {own C ref : String} {T : u_T} {N ci index a b : Nat} {ty : Nat → FieldType} {β : Type} {o : β} {oc : Out}
/-- a contract that returns, as one that can't throw -/
theorem met_plain {D : va_G} {l : Launch} {y : MethodName} {ws : List Cond} {rm : Room} {Pc : Array Value → State → Prop} {h hF : AH} {v : Option Value} {mc ms : Nat} {free : Addr → Prop} (hM : vx_Met l y ws rm Pc (vQc D h hF (.inl v)) (vXc D h hF (.inl v)) mc ms free) : Met l y ws rm Pc (vQc D h hF (.inl v)) mc ms free := by
  intro p e ha hc hk s m args below hf happ hP hKK
  obtain ⟨n, o, h1, h2, h3, h4⟩ := hM p e ha hc hk s m args below hf happ hP hKK
  refine ⟨n, o, h1, h2, h3, ?_⟩
  rcases h4 with h4 | ⟨q, -, E, ce, L, hx, -⟩
  · exact h4
  · have := hx.1
    cases this
theorem k_D {x y : MethodName} {owner : String} {bytes : ByteArray} {maxL fr lo n : Nat} {rt : Option FieldType} {As : List Value} {v0 : Option Value} (hc : gC g = cc) (ho : gO g = own) (hcl : vwCl[ci]? = some (C, T, N)) (hi : isC h ci b = true)
    (hM : MetV (gD g) (gL g) y (Cond.code y bytes maxL rt) fr lo (.ref b :: As) h h1 (.inl v0)) (qm : Cond.methodLink own index x ∈ wA) (qsm : Cond.sameMethod x.cls owner x.name x.desc ∈ wA) (qd : Cond.declares ⟨owner, x.name, x.desc⟩ ∈ lw_tbl) (ql : (C, x, y) ∈ dfL) (qi : Cond.instanceMethod y ∈ lw_all) (qn : Cond.initialized y.cls ∈ lw_all) (qc : Cond.code y bytes maxL rt ∈ lw_all)
    (hy : owner ≠ "java/lang/invoke/MethodHandle" ∧ owner ≠ "java/lang/invoke/VarHandle" ∧ (parseMethodDescriptor x.desc).map (fun d => d.parameters.length) = some n) (hR : fr + 1 ≤ gFr g ∧ 8 + (maxL + 11) + lo ≤ gLo g) (hn : As.length = n) (hst : st0 = As.reverse ++ .ref b :: rest) (hw8 : (rest.map fun v => v.category).sum ≤ 8) (d : decode cc pc = .ok (.invokevirtual index, 3)) (hp : pc + 3 = pc')
    (kk : V g h1 pc' lv (v0.toList ++ rest)) : V g h pc lv st0 := by
  subst hp; subst hc; subst ho
  have hle := hM.1
  refine ⟨hle.tr kk.1, fun hz p e s m below meth c H locs ls C0 w S L => ?_⟩
  have E := C0.2.2.2.2.2.2.2.2.2.2.2
  obtain ⟨fs, he⟩ := isC_of hi
  have hroom := room_k hz hle kk.1
  obtain ⟨hrc, hrs, hfr, hlo, hws, hcw⟩ := cbase (g := g) (h := h) (h1 := h1) C0 qc hR
  have hK := back_of (W := 8) (len := 3) (bytes := bytes) (maxL := maxL) (ret := rt) (R := gRm g) (p := p) (e := e) (below := below) (s := s) (sargs := (gV g).toArray) (met_plain hM.2) vPc_blind hrc hrs hfr hlo hws hcw (fun a' U hW => word_at hW (Or.inl (by first | rfl | simp [Cond.onTables, Cond.keeps, Cond.steady])) (E.word (a := #[]) qn))
  refine v_cont (av := (Value.ref b :: As).toArray) (oc := .inl v0) hz hle C0 S L (rest := rest) ?_ (fun v hv => by cases hv; exact kk) (fun q hq => by cases hq)
  intro T0 hT X
  obtain ⟨cell, c1, c2, c3⟩ := w.recv E hcl he
  obtain ⟨v, vm₁, ⟨U', l2, c2', s2⟩, hW₁, X', ⟨g', mk, t, L9, e1, e2, hq, h1', hL, h2, h3⟩, st⟩ := virtualBackUpD X C0.1 C0.2.2.2.2.1 (E.1 _ qm _) (E.1 _ qsm _) ((E.nw qd rfl).use rfl) ⟨hy.1, hy.2.1⟩ (show (Cond.landsInDefault C x y).before (gV g).toArray s = true from E.2.2.2.2.2.2.2.2.2.2.2 _ ql) (E.word qi) hK (C := C) (b := b) c3 ⟨cell, by rw [hT]; exact c1, rfl, c2⟩ (g := F0 m pc ls st0) rfl (L.1.trans C0.2.2.1.symm) (Steps.refl _) (argsL := As) (rest := rest) (fun sig hs => hn.trans (clen (y := x) hy.2.2 sig hs)) hst (lv_room hw8) (by rw [C0.2.1]; exact d) (fun vm₁ hW₁ => ⟨hroom.1, hroom.2, v_pre hz C0 w S (T0.setVm vm₁) hT hW₁⟩)
  dsimp only [Pt.U, Pt.locs, Pt.cells, Pt.slots] at X' e1 e2 h1' h2 h3 st
  subst h1'; subst h2; subst h3
  exact Or.inl ⟨v, (T0.setVm vm₁).calling g' mk (Value.ref b :: As).toArray, t, U', L9, hT, X', hL, e1, e2, hq, fun target hg => st.trans hg⟩
theorem k_FD {x y : MethodName} {count : Nat} {bytes : ByteArray} {maxL fr lo n : Nat} {rt : Option FieldType} {As : List Value} {v0 : Option Value} (hc : gC g = cc) (ho : gO g = own) (hcl : vwCl[ci]? = some (C, T, N)) (hi : isC h ci b = true)
    (hM : MetV (gD g) (gL g) y (Cond.code y bytes maxL rt) fr lo (.ref b :: As) h h1 (.inl v0)) (qm : Cond.methodLink own index x ∈ wA) (qf : (C, x, y) ∈ fwL) (ql : (C, x, y) ∈ dfL) (qi : Cond.instanceMethod y ∈ lw_all) (qn : Cond.initialized y.cls ∈ lw_all) (qc : Cond.code y bytes maxL rt ∈ lw_all)
    (hy : x.cls ≠ "java/lang/invoke/MethodHandle" ∧ x.cls ≠ "java/lang/invoke/VarHandle" ∧ (parseMethodDescriptor x.desc).map (fun d => d.parameters.length) = some n) (hR : fr + 1 ≤ gFr g ∧ 8 + (maxL + 11) + lo ≤ gLo g) (hn : As.length = n) (hst : st0 = As.reverse ++ .ref b :: rest) (hw8 : (rest.map fun v => v.category).sum ≤ 8) (d : decode cc pc = .ok (.invokeinterface index count, 5)) (hp : pc + 5 = pc')
    (kk : V g h1 pc' lv (v0.toList ++ rest)) : V g h pc lv st0 := by
  subst hp; subst hc; subst ho
  have hle := hM.1
  refine ⟨hle.tr kk.1, fun hz p e s m below meth c H locs ls C0 w S L => ?_⟩
  have E := C0.2.2.2.2.2.2.2.2.2.2.2
  obtain ⟨fs, he⟩ := isC_of hi
  have hroom := room_k hz hle kk.1
  obtain ⟨hrc, hrs, hfr, hlo, hws, hcw⟩ := cbase (g := g) (h := h) (h1 := h1) C0 qc hR
  have hK := back_of (W := 8) (len := 5) (bytes := bytes) (maxL := maxL) (ret := rt) (R := gRm g) (p := p) (e := e) (below := below) (s := s) (sargs := (gV g).toArray) (met_plain hM.2) vPc_blind hrc hrs hfr hlo hws hcw (fun a' U hW => word_at hW (Or.inl (by first | rfl | simp [Cond.onTables, Cond.keeps, Cond.steady])) (E.word (a := #[]) qn))
  refine v_cont5 (av := (Value.ref b :: As).toArray) (oc := .inl v0) hz hle C0 S L (rest := rest) ?_ (fun v hv => by cases hv; exact kk) (fun q hq => by cases hq)
  intro T0 hT X
  obtain ⟨cell, c1, c2, c3⟩ := w.recv E hcl he
  obtain ⟨-, hfc, kC, hkC, hkind⟩ := E.kK.1 ci _ hcl
  have hce : cell.cls = (gD g).1 ci := Option.some.inj (c3.symm.trans hfc)
  obtain ⟨f1, f2, f3, f4, f5⟩ := E.2.2.1 _ qf
  obtain ⟨v, vm₁, ⟨U', l2, c2', s2⟩, hW₁, X', ⟨g', mk, t, L9, e1, e2, hq, h1', hL, h2, h3⟩, st⟩ := interfaceBackD X C0.1 C0.2.2.2.2.1 (E.1 _ qm _) (va_any rfl f1) (va_any rfl f2) (show (Cond.landsInDefault C x y).before (gV g).toArray s = true from E.2.2.2.2.2.2.2.2.2.2.2 _ ql) (E.word qi) (va_any rfl f3) (va_any rfl f5) ⟨hy.1, hy.2.1⟩ hK (C := C) (b := b) c3 (by rw [hce]; exact hkC) ⟨cell, by rw [hT]; exact c1, rfl, c2⟩ (g := F0 m pc ls st0) rfl (L.1.trans C0.2.2.1.symm) (Steps.refl _) (argsL := As) (rest := rest) (fun sig hs => hn.trans (clen (y := x) hy.2.2 sig hs)) hst (lv_room hw8) (by rw [C0.2.1]; exact d) (fun vm₁ hW₁ => ⟨hroom.1, hroom.2, v_pre hz C0 w S (T0.setVm vm₁) hT hW₁⟩)
  dsimp only [Pt.U, Pt.locs, Pt.cells, Pt.slots] at X' e1 e2 h1' h2 h3 st
  subst h1'; subst h2; subst h3
  exact Or.inl ⟨v, (T0.setVm vm₁).calling g' mk (Value.ref b :: As).toArray, t, U', L9, hT, X', hL, e1, e2, hq, fun target hg => st.trans hg⟩
/-- putfield of a nest mate's field that isn't final -/
theorem v_pn {host : String} (hc : gC g = cc) (ho : gO g = own) (K : ClsOk ci C T N ty) (k : Nat) (hk : k < N) (q : Cond.fieldLinkNest own index ref (T k).2.1 (T k).2.2.1 host ∈ lw_tbl) (hs : (T k).1 = ref) (hfin : (T k).2.2.2 = false) (d : decode cc pc = .ok (.putfield index, 3)) (hp : pc + 3 = pc') {v : Value} (hn : narrow (ty k) v = v) (hfit : fits (ty k) v = true) {X : AH → Option β} (hf : bd (stF h ci a k v) X = some o) (kk : ∀ h1, stF h ci a k v = some h1 → X h1 = some o → V g h1 pc' lv rest) : V g h pc lv (v :: .ref a :: rest) := by
  subst hp; subst hc; subst ho
  obtain ⟨h1, e1, hf⟩ := bd_of hf
  have kk := kk h1 e1 hf
  obtain ⟨fs, hcell, hba, hkl, rfl⟩ := stF_of e1
  refine ⟨(aLe.up h a _).tr kk.1, fun h0 p e s m below meth c H locs ls C0 w S L => ?_⟩
  obtain ⟨hx, hb, hml, hr, hown, hlk, hnm, het, hst, hbz, hzz, E⟩ := id C0
  obtain ⟨hcl, hin, hty, hdn⟩ := K
  obtain ⟨cell, r, h1, q1, q2, q3, q5, q6, q7, q8, q4⟩ := w.2.2 a _ hcell
  have hr : r = (C, T, N) := Option.some.inj (h1.symm.trans hcl)
  subst hr
  obtain ⟨hS, hfc, kC, hkC, hkind⟩ := E.kK.1 ci _ hcl
  obtain ⟨cf, kf, fi, f, hi, hsl⟩ := hS k hk
  have hts : ∀ w ∈ lw_all, w.before (gV g).toArray s = true := fun w hw => E.word hw
  have hap := va_apart (own := gO g) hts hin ty hty hdn E.kK hcl
  have hlay := hts _ (hin _ (u_in_lay hk))
  unfold u_lay at hlay
  rw [if_neg (by rw [hfin]; decide)] at hlay
  have h6 := u_store hfc hkC hkind hlay hi (hty k hk) hn hfit
  have hvm := q6 (by show aB h ≤ a; exact hba)
  refine va_WputK hx hb (f := f) hown ((E.nw q rfl).use rfl) (by rw [← hs]; exact hi) (u_facts hfc hkC (u_lays hts hin hk) hi).1 (by rw [q2]; exact h6) q1 hvm (by rw [hsl]; exact k2_hasslot (q4 k hk)) rfl rfl d fun H' e1 e2 e3 => ?_
  rw [hsl] at e1 ⊢
  refine kk.2 (h0.tr (aLe.up h a _)) p e s m below meth c H' _ ls C0 (w.put q1 e1 rfl rfl e2 e3 ?_) (S.put e2 e3 (by show aB (g0 g) ≤ a; rw [h0.2.2.1]; exact hba)) L
  exact ⟨_, _, hcl, e1, q2, q3, q5, q6, q7, by rw [List.length_set]; exact q8, fun j hj => (t_set q4 hap hk v j hj).trans (congrArg some (vp_updV_set hkl v j))⟩
/-- super() of Object -/
theorem v_oinit (hc : gC g = cc) (ho : gO g = own) (q1 : Cond.methodLink own index objectInit ∈ lw_all) (q2 : Cond.instanceMethod objectInit ∈ lw_all) (q3 : Cond.code objectInit ⟨#[0xb1]⟩ 1 none ∈ lw_all) (hR : 1 ≤ gFr g ∧ (rest.map fun v => v.category).sum + 12 ≤ gLo g) (d : decode cc pc = .ok (.invokespecial index, 3)) (hp : pc + 3 = pc') (kk : V g h pc' lv rest) : V g h pc lv (.ref a :: rest) := by
  subst hp; subst hc; subst ho
  refine ⟨kk.1, fun hz p e s m below meth c H locs ls C0 w S L => ?_⟩
  have E := C0.2.2.2.2.2.2.2.2.2.2.2
  exact W.objInit C0.1 C0.2.1 C0.2.2.2.2.1 (E.word q1) (E.word q2) (E.word q3) rfl (L.1.trans C0.2.2.1.symm) rfl d hR.1 (by show 2 * 0 + _ + 12 ≤ _; have := hR.2; have hg : gLo g = (gRm g).locals := rfl; rw [← hg]; omega) (kk.2 hz p e s m below meth c H locs ls C0 w S L)
/-- A METHOD's CONTRACT OUT OF ITS WALK -/
theorem met_of {D : va_G} {l : Launch} {y : MethodName} {bytes : ByteArray} {maxL fr lo : Nat} {rt : Option FieldType} {args : List Value} {hF : AH} {lv0 : List (Nat × Value)} (hy : plainName y.cls = true) (hl : l.stackTraces = false) (hlen : (lg_sl args).length ≤ maxL) (hlv : lv_args 0 args = lv0)
    (k : V (D, l, (y.cls, y, bytes, maxL, rt, fr, lo, []), args, h, hF, oc) h 0 lv0 []) : MetV D l y (Cond.code y bytes maxL rt) fr lo args h hF oc := by
  refine ⟨k.1, vx_ofW (cc := bytes) (maxL := maxL) (ret := rt) hy rfl ?_⟩
  intro p e s m av below meth c s₁ B hml hT hv
  obtain ⟨rfl, E, w⟩ := hv
  have hown : s.vm.findClass y.cls = some m.cls := findClass_of_methodNamed B.named
  have hl9 := lv_entry args (n := maxL) hlen
  have hent : entryFrame m args.toArray maxL = F0 m 0 (lg_sl args ++ List.replicate (maxL - (lg_sl args).length) Slot.unset).toArray [] := lg_entry_eq ..
  rw [hent]
  have hz0 : aLe (g0 (D, l, (y.cls, y, bytes, maxL, rt, fr, lo, []), args, h, hF, oc)) h := aLe.rf h
  have hnil : c.exceptionTable.toList = [] := by
    cases hc9 : c.exceptionTable.toList with
    | nil => rfl
    | cons x xs => exact (hT x (by rw [hc9]; exact List.mem_cons_self)).elim
  have := k.2 hz0 p e s m below meth c s.heap [] _ ⟨B.exec, B.bytes, hml, B.returns, hown, B.notSynchronized, (name_of_methodNamed B.named B.method).1, hnil, hl, by rw [w.1]; exact w.2.1, w.1.symm, E⟩ w va_S.rf (by rw [← hlv]; exact hl9)
  rw [show aZ h - aZ (g0 (D, l, (y.cls, y, bytes, maxL, rt, fr, lo, []), args, h, hF, oc)) = 0 from Nat.sub_self _, show aS h - aS (g0 (D, l, (y.cls, y, bytes, maxL, rt, fr, lo, []), args, h, hF, oc)) = 0 from Nat.sub_self _] at this
  exact this
/-- .. of a method with handlers -/
theorem met_ofH {D : va_G} {l : Launch} {y : MethodName} {bytes : ByteArray} {maxL fr lo : Nat} {rt : Option FieldType} {hh : List (Nat × Nat × Nat × Nat)} {args : List Value} {hF : AH} {lv0 : List (Nat × Value)} (hy : plainName y.cls = true) (hl : l.stackTraces = false) (hlen : (lg_sl args).length ≤ maxL) (hlv : lv_args 0 args = lv0)
    (k : V (D, l, (y.cls, y, bytes, maxL, rt, fr, lo, hh), args, h, hF, oc) h 0 lv0 []) : MetV D l y (Cond.codeWith y bytes maxL rt hh) fr lo args h hF oc := by
  refine ⟨k.1, vx_ofWH (cc := bytes) (maxL := maxL) (ret := rt) (hh := hh) hy rfl ?_⟩
  intro p e s m av below meth c s₁ B hml hv
  obtain ⟨rfl, E, w⟩ := hv
  have hown : s.vm.findClass y.cls = some m.cls := findClass_of_methodNamed B.named
  have hl9 := lv_entry args (n := maxL) hlen
  have hent : entryFrame m args.toArray maxL = F0 m 0 (lg_sl args ++ List.replicate (maxL - (lg_sl args).length) Slot.unset).toArray [] := lg_entry_eq ..
  rw [hent]
  have hz0 : aLe (g0 (D, l, (y.cls, y, bytes, maxL, rt, fr, lo, hh), args, h, hF, oc)) h := aLe.rf h
  have htab : c.exceptionTable.toList = tableOf hh := vx_table (x := y) B (atoms_spec (ws := [Cond.codeWith y bytes maxL rt hh]) B.pre _ List.mem_cons_self)
  have := k.2 hz0 p e s m below meth c s.heap [] _ ⟨B.exec, B.bytes, hml, B.returns, hown, B.notSynchronized, (name_of_methodNamed B.named B.method).1, htab, hl, by rw [w.1]; exact w.2.1, w.1.symm, E⟩ w va_S.rf (by rw [← hlv]; exact hl9)
  rw [show aZ h - aZ (g0 (D, l, (y.cls, y, bytes, maxL, rt, fr, lo, hh), args, h, hF, oc)) = 0 from Nat.sub_self _, show aS h - aS (g0 (D, l, (y.cls, y, bytes, maxL, rt, fr, lo, hh), args, h, hF, oc)) = 0 from Nat.sub_self _] at this
  exact this
end VK3
