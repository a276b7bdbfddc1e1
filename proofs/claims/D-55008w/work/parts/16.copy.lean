/-! ROWS over V: System.arraycopy, casts, statics, constants, class objects -/
set_option maxRecDepth 100000
set_option maxHeartbeats 1000000
theorem cpI_of {h h1 : AH} {k a b : Nat} {sp dp n : Int32} (e : cpI h k a sp b dp n = some h1) : ∃ na nb f g, aC h a = some (.inl (k, na, .inl f)) ∧ aC h b = some (.inl (k, nb, .inl g)) ∧ 0 ≤ sp ∧ 0 ≤ dp ∧ 0 ≤ n ∧ sp.toNatClampNeg + n.toNatClampNeg ≤ na ∧ dp.toNatClampNeg + n.toNatClampNeg ≤ nb ∧ aB h ≤ b ∧ h1 = aUp h b (.inl (k, nb, .inl (va_cpy f g sp.toNatClampNeg dp.toNatClampNeg n.toNatClampNeg))) := by
  unfold cpI at e
  split at e
  · rename_i na f nb g ha hb
    split at e
    · rename_i h9; cases e; exact ⟨na, nb, f, g, arr_of ha, arr_of hb, h9.1, h9.2.1, h9.2.2.1, h9.2.2.2.1, h9.2.2.2.2.1, h9.2.2.2.2.2, rfl⟩
    · cases e
  · cases e
theorem cpQ_of {h h1 : AH} {a b : Nat} {sp dp n : Int32} (e : cpQ h a sp b dp n = some h1) : ∃ na nb f g, aC h a = some (.inl (4, na, .inr (.inr (.inr (.inr f))))) ∧ aC h b = some (.inl (4, nb, .inr (.inr (.inr (.inr g))))) ∧ 0 ≤ sp ∧ 0 ≤ dp ∧ 0 ≤ n ∧ sp.toNatClampNeg + n.toNatClampNeg ≤ na ∧ dp.toNatClampNeg + n.toNatClampNeg ≤ nb ∧ aB h ≤ b ∧ h1 = aUp h b (.inl (4, nb, .inr (.inr (.inr (.inr (va_cpy f g sp.toNatClampNeg dp.toNatClampNeg n.toNatClampNeg)))))) := by
  unfold cpQ at e
  split at e
  · rename_i na f nb g ha hb
    split at e
    · rename_i h9; cases e; exact ⟨na, nb, f, g, arr_of ha, arr_of hb, h9.1, h9.2.1, h9.2.2.1, h9.2.2.2.1, h9.2.2.2.2.1, h9.2.2.2.2.2, rfl⟩
    · cases e
  · cases e
theorem nnZ (z : Int32) (hz : 0 ≤ z) : z.toInt = (z.toNatClampNeg : Int) := by
  have h9 : (0 : Int) ≤ z.toInt := by simpa using Int32.le_iff_toInt_le.mp hz
  show z.toInt = ((z.toInt.toNat : Nat) : Int)
  omega
theorem x_ldcwS {p : Program} {l : Launch} {e : Env} {R : Room} {s : State} {m : MethodId} {args : Array Value} {below : List Frame} {meth : Method} {c : Code} {T : State} {locs : List Loc} {cells slots : Nat}
    (X : Stand p l e R s m args below meth c T locs cells slots) (hexec : p.tables.exec = Jvm.exec) {own text : String} {index : Nat} {a : Addr} (hown : s.vm.findClass own = some m.cls)
    (hconst : (Cond.stringRef own index text).before args s = true) (hev : (Term.string own index).eval args s none [] s = some (.ref a)) {g : JFrame} (hg : g.method = m) (hdg : decode c.code g.pc = .ok (.ldc_w index, 3)) :
    ∀ target, Steps p.tables e below (T.setTop { g with pc := g.pc + 3, stack := .ref a :: g.stack }) target → Steps p.tables e below (T.setTop g) target := by
  obtain ⟨k, cf, i, a', hk, hcf, hcp, -, hr, hev'⟩ := Cond.stringRef_spec hown hconst
  cases hev.symm.trans hev'
  obtain ⟨k', hk', he⟩ := X.warmed.alike.2.2 _ _ hk
  have hr' : k'.resolved[index]? = some (some (.string a)) := by
    rcases X.warmed.entry hk hk' index with h | ⟨h, -⟩
    · rw [h]; exact hr
    · rw [hr] at h; cases h
  intro target hrest
  subst hg
  jvm_step X.here [hexec, hdg, ldc_w.wp_string (e := e) (s := T) (f := g) X.here.top hk' (by rw [he]; exact hcf) hcp hr']
  exact hrest
section VC
variable {g : CT} {h : AH} {pc pc' : Nat} {lv : List (Nat × Value)} {rest : List Value} {cc : ByteArray} {own C ref : String} {T : u_T} {N ci index a b : Nat} {ty : Nat → FieldType} {β : Type} {o : β} {i : Int32}
theorem v_cp {k na nb : Nat} {cf cg c' : (Nat → Int32) ⊕ (Nat → Int64) ⊕ (Nat → UInt32) ⊕ (Nat → UInt64) ⊕ (Nat → Option Nat)} {sp dp n : Int32} (hc : gC g = cc) (ho : gO g = own) (q1 : Cond.methodLink own index arraycopyName ∈ lw_all) (q2 : Cond.native arraycopyName ∈ lw_all) (q3 : Cond.static arraycopyName ∈ lw_all) (q4 : Cond.initialized "java/lang/System" ∈ lw_all)
    (hR : 1 ≤ gFr g ∧ (rest.map fun v => v.category).sum + 40 ≤ gLo g) (d : decode cc pc = .ok (.invokestatic index, 3)) (hp : pc + 3 = pc')
    (ha : aC h a = some (.inl (k, na, cf))) (hb : aC h b = some (.inl (k, nb, cg))) (h1 : 0 ≤ sp) (h2 : 0 ≤ dp) (h3 : 0 ≤ n) (h4 : sp.toNatClampNeg + n.toNatClampNeg ≤ na) (h5 : dp.toNatClampNeg + n.toNatClampNeg ≤ nb) (hba : aB h ≤ b)
    (he : ∀ j, elV c' j = if dp.toNatClampNeg ≤ j ∧ j < dp.toNatClampNeg + n.toNatClampNeg then elV cf (sp.toNatClampNeg + (j - dp.toNatClampNeg)) else elV cg j)
    (kk : V g (aUp h b (.inl (k, nb, c'))) pc' lv rest) : V g h pc lv (.int n :: .int dp :: .ref b :: .int sp :: .ref a :: rest) := by
  subst hp; subst hc; subst ho
  refine ⟨(aLe.up h b _).tr kk.1, fun hz p e s m below meth c H locs ls C0 w S L => ?_⟩
  have E := C0.2.2.2.2.2.2.2.2.2.2.2
  obtain ⟨ca, a1, a2, a3, a4, a5, a6, a7, a8⟩ := w.2.2 a _ ha
  obtain ⟨cb, b1, b2, b3, b4, b5, b6, b7, b8⟩ := w.2.2 b _ hb
  obtain ⟨a9, ka, hka, ma, hma⟩ := a3
  obtain ⟨b9, kb, hkb, mb, hmb⟩ := b3
  intro T hT X
  have hgl : gLo g = (gRm g).locals := rfl
  have hgf : gFr g = (gRm g).frames := rfl
  rw [hgl, hgf] at hR
  have hval : ∀ j, j < n.toNatClampNeg → ca.slots.getD (sp.toNatClampNeg + j) .null = elV cf (sp.toNatClampNeg + j) := fun j hj => by
    rw [Array.getD_eq_getD_getElem?, a7 _ (show _ < na by omega)]; rfl
  obtain ⟨vm', X', step⟩ := X.arraycopy C0.1 C0.2.2.2.2.1 (E.word q1) (E.word q2) (E.word q3) (E.word q4) (src := a) (dst := b) (cs := ca) (cd := cb) (srcPos := sp) (destPos := dp) (n := n) (by rw [hT]; exact a1) (by rw [hT]; exact b1)
    a9 b9 a4 b4 hka hkb hma hmb (by cases (tyA k) <;> simp [refKind]) (Int32.not_lt.mpr h1) (Int32.not_lt.mpr h2) (Int32.not_lt.mpr h3)
    (by rw [nnZ sp h1, nnZ n h3]; have := a6.1; dsimp only at this; omega)
    (by rw [nnZ dp h2, nnZ n h3]; have := b6.1; dsimp only at this; omega)
    (fun vm₁ hal j hj => by
      rw [hval j hj]
      obtain ⟨f1, f2⟩ := a8 (sp.toNatClampNeg + j) (show _ < na by omega)
      refine ⟨f1, ?_⟩
      cases hv : elV cf (sp.toNatClampNeg + j) with
      | ref y =>
        obtain ⟨cellV, g1, g2, ⟨kC, hkC⟩, hasg⟩ := f2 y hv
        obtain ⟨kC', hkC', -⟩ := hal.2.2 _ _ hkC
        have hk4 : tyA k = .object "java/lang/Object" := by
          have : fits (tyA k) (.ref y) = true := by rw [← hv]; exact f1
          match k, this with
          | 0, h => cases h
          | 1, h => cases h
          | 2, h => cases h
          | 3, h => cases h
          | k + 4, _ => rfl
        have hn4 : nmA k = "[Ljava/lang/Object;" := by rw [← nmA_eq, hk4]; rfl
        obtain ⟨comp, c9, k9, r1, -, r3, r4, r5⟩ := Cond.arrayOver_spec E.2.2.2.1
        have hce : c9 = cb.cls := Option.some.inj (r5.symm.trans (by rw [← b2 (fun h => by have h : k = 0 := h; subst h; cases hk4)]; show _ = s.vm.findClass (nmA k); rw [hn4]; rfl))
        rw [hce] at r3
        cases r3.symm.trans hkb
        have hm1 : mb = comp := by
          have := hmb.symm.trans r4
          injection this
        subst hm1
        obtain ⟨kE, hkE, -⟩ := Vm.findClass_spec r1
        obtain ⟨kE', hkE', -⟩ := hal.2.2 _ _ hkE
        refine ⟨cellV, (show T.heap[y]? = some cellV by rw [hT]; exact g1), (fun q h => by rw [h] at g2; cases g2), ⟨kC', hkC'⟩, ⟨kE', hkE'⟩, ?_⟩
        show vm₁.assignable _ _ = true
        rw [hal.assignable]
        exact hasg _ r1
      | _ => trivial)
    (g := F0 m pc ls (.int n :: .int dp :: .ref b :: .int sp :: .ref a :: rest)) rfl (by show ls.size = _; rw [C0.2.2.1]; exact L.1) (rest := rest) rfl (by rw [C0.2.1]; exact d) hR.1 (by
      have hw : nativeFrameWords "java/lang/System" "arraycopy" 5 + 11 ≤ 40 := by decide
      have := hR.2
      show 2 * 0 + _ + _ ≤ _
      omega)
  have hl : b < H.size := (Array.getElem?_eq_some_iff.mp b1).1
  have hlen : (ca.stretch sp.toNatClampNeg n.toNatClampNeg).length = n.toNatClampNeg := by simp [Cell.stretch]
  obtain ⟨z1, z2, z3, z4, z5⟩ := Cell.storeRun_facts cb dp.toNatClampNeg (ca.stretch sp.toNatClampNeg n.toNatClampNeg)
  generalize hcp : copied ca cb sp dp n = cp at X' step
  have hcp' : cb.storeRun dp.toNatClampNeg (ca.stretch sp.toNatClampNeg n.toNatClampNeg) = cp := hcp
  rw [hcp'] at z1 z2 z3
  have hread : ∀ j, j < nb → cp.slots[j]? = some (elV c' j) := fun j hj => by
    rw [← hcp', Cell.storeRun_get _ _ _ _ (by rw [hlen]; exact Nat.le_trans h5 b6.1), hlen, he j]
    by_cases h9 : dp.toNatClampNeg ≤ j ∧ j < dp.toNatClampNeg + n.toNatClampNeg
    · rw [if_pos h9, if_pos h9]
      unfold Cell.stretch
      rw [List.getElem?_map, List.getElem?_range (by omega)]
      show some (ca.slots.getD (sp.toNatClampNeg + (j - dp.toNatClampNeg)) .null) = _
      rw [hval _ (by omega)]
    · rw [if_neg h9, if_neg h9]
      exact b7 j hj
  have hheap : ((T.setVm vm').setCell b cp).heap = H.setIfInBounds b cp := by rw [← hT]; rfl
  have e1 : (H.setIfInBounds b cp)[b]? = some cp := by simp [Array.getElem?_setIfInBounds, hl]
  have oq : ∀ q : Nat, q ≠ b → (H.setIfInBounds b cp)[q]? = H[q]? := fun q hq => by simp [Array.getElem?_setIfInBounds, Ne.symm hq]
  have hgb : gA g b := gA_of (hz := hz) hba
  have hKin : Kin H (H.setIfInBounds b cp) := Kin.put b1 e1 z1 z2 oq
  have W2 : Wc (gD g) (aUp h b (.inl (k, nb, c'))) s (H.setIfInBounds b cp) := by
    refine w.put b1 e1 z1 z2 (by simp) oq ⟨cp, e1, fun z => by rw [z1]; exact b2 z, ⟨fun q => by rw [z2]; exact b9 q, kb, by rw [z1]; exact hkb, mb, hmb⟩, by rw [z2]; exact b4, by rw [z2]; exact b5, by rw [z3]; exact b6, hread, fun j hj => ?_⟩
    rw [he j]
    by_cases h9 : dp.toNatClampNeg ≤ j ∧ j < dp.toNatClampNeg + n.toNatClampNeg
    · rw [if_pos h9]
      obtain ⟨f1, f2⟩ := a8 (sp.toNatClampNeg + (j - dp.toNatClampNeg)) (show _ < na by omega)
      exact ⟨f1, fun y hy => va_Any.moved (Vm.Alike.refl s.vm) hKin (f2 y hy)⟩
    · rw [if_neg h9]
      obtain ⟨f1, f2⟩ := b8 j hj
      exact ⟨f1, fun y hy => va_Any.moved (Vm.Alike.refl s.vm) hKin (f2 y hy)⟩
  have S2 : va_S (gA g) s.heap (H.setIfInBounds b cp) (locs ++ (ca.stretch sp.toNatClampNeg n.toNatClampNeg).zipIdx.map fun q => ⟨b, dp.toNatClampNeg + q.2⟩) := by
    refine ⟨by simp; exact S.1, fun q g1 g2 => ?_, fun q hq => ?_⟩
    · rw [oq q (fun e => g2 (by rw [e]; exact hgb))]
      exact S.2.1 q g1 g2
    · rcases List.mem_append.mp hq with h | h
      · exact S.2.2 q h
      · obtain ⟨z, -, hz⟩ := List.mem_map.mp h
        rw [← hz]
        exact hgb
  obtain ⟨t, t1, t2⟩ := kk.2 (hz.tr (aLe.up h b _)) p e s m below meth c (H.setIfInBounds b cp) _ ls C0 W2 S2 L _ hheap X'
  exact ⟨t, step t t1, t2⟩
/-- arraycopy over numbers -/
theorem v_cpI {k : Nat} {sp dp n : Int32} (hc : gC g = cc) (ho : gO g = own) (q1 : Cond.methodLink own index arraycopyName ∈ lw_all) (q2 : Cond.native arraycopyName ∈ lw_all) (q3 : Cond.static arraycopyName ∈ lw_all) (q4 : Cond.initialized "java/lang/System" ∈ lw_all)
    (hR : 1 ≤ gFr g ∧ (rest.map fun v => v.category).sum + 40 ≤ gLo g) (d : decode cc pc = .ok (.invokestatic index, 3)) (hp : pc + 3 = pc') {X : AH → Option β} (hf : bd (cpI h k a sp b dp n) X = some o) (kk : ∀ h1, cpI h k a sp b dp n = some h1 → X h1 = some o → V g h1 pc' lv rest) : V g h pc lv (.int n :: .int dp :: .ref b :: .int sp :: .ref a :: rest) := by
  obtain ⟨h1, e, hf⟩ := bd_of hf
  have kk := kk h1 e hf
  obtain ⟨na, nb, f, g1, ha, hb, x1, x2, x3, x4, x5, x6, rfl⟩ := cpI_of e
  exact v_cp hc ho q1 q2 q3 q4 hR d hp ha hb x1 x2 x3 x4 x5 x6 (fun j => by simp only [elV, va_cpy]; split <;> rfl) kk
/-- arraycopy over references -/
theorem v_cpQ {sp dp n : Int32} (hc : gC g = cc) (ho : gO g = own) (q1 : Cond.methodLink own index arraycopyName ∈ lw_all) (q2 : Cond.native arraycopyName ∈ lw_all) (q3 : Cond.static arraycopyName ∈ lw_all) (q4 : Cond.initialized "java/lang/System" ∈ lw_all)
    (hR : 1 ≤ gFr g ∧ (rest.map fun v => v.category).sum + 40 ≤ gLo g) (d : decode cc pc = .ok (.invokestatic index, 3)) (hp : pc + 3 = pc') {X : AH → Option β} (hf : bd (cpQ h a sp b dp n) X = some o) (kk : ∀ h1, cpQ h a sp b dp n = some h1 → X h1 = some o → V g h1 pc' lv rest) : V g h pc lv (.int n :: .int dp :: .ref b :: .int sp :: .ref a :: rest) := by
  obtain ⟨h1, e, hf⟩ := bd_of hf
  have kk := kk h1 e hf
  obtain ⟨na, nb, f, g1, ha, hb, x1, x2, x3, x4, x5, x6, rfl⟩ := cpQ_of e
  exact v_cp hc ho q1 q2 q3 q4 hR d hp ha hb x1 x2 x3 x4 x5 x6 (fun j => by simp only [elV, va_cpy]; split <;> rfl) kk
/-- the cell of an object of a known class -/
theorem Wc.recv {D : va_G} {B : Nat} {E : Nat → Option Nat} {s : State} {H : Heap} {fs : List Value} (En : Ent D B E s) (w : Wc D h s H) (hcl : vwCl[ci]? = some (C, T, N)) (he : aC h a = some (.inr (ci, fs))) : ∃ cell : Cell, H[a]? = some cell ∧ cell.vm.isStatics = false ∧ s.vm.findClass C = some cell.cls := by
  obtain ⟨cell, r, h1, q1, q2, q3, q5, -⟩ := w.2.2 a _ he
  exact ⟨cell, q1, q5, by rw [q2]; exact (En.kK.1 ci _ hcl).2.1⟩
/-- checkcast that holds; the object's class -/
theorem v_cast {nm : String} (hc : gC g = cc) (ho : gO g = own) (hcl : vwCl[ci]? = some (C, T, N)) (q1 : Cond.classLink own index nm ∈ lw_all) (q2 : nm = C ∨ Cond.castable C nm ∈ lw_tbl) (d : decode cc pc = .ok (.checkcast index, 3)) (hp : pc + 3 = pc') (hi : isC h ci a = true) (kk : V g h pc' lv (.ref a :: rest)) : V g h pc lv (.ref a :: rest) := by
  subst hp; subst hc; subst ho
  obtain ⟨fs, he⟩ := isC_of hi
  refine ⟨kk.1, fun hz p e s m below meth c H locs ls C0 w S L => ?_⟩
  have E := C0.2.2.2.2.2.2.2.2.2.2.2
  rcases q2 with rfl | q2
  · exact va_castE C0.1 C0.2.1 C0.2.2.2.2.1 (E.word q1) (w.recv E hcl he) d (kk.2 hz p e s m below meth c H locs ls C0 w S L)
  · exact va_castY C0.1 C0.2.1 C0.2.2.2.2.1 (E.word q1) (E.nw q2 rfl) (w.recv E hcl he) d (kk.2 hz p e s m below meth c H locs ls C0 w S L)
theorem v_inst {nm : String} (hc : gC g = cc) (ho : gO g = own) (hcl : vwCl[ci]? = some (C, T, N)) (q1 : Cond.classLink own index nm ∈ lw_all) (q2 : nm = C ∨ Cond.castable C nm ∈ lw_tbl) (d : decode cc pc = .ok (.instanceof index, 3)) (hp : pc + 3 = pc') (hi : isC h ci a = true) (kk : V g h pc' lv (.int 1 :: rest)) : V g h pc lv (.ref a :: rest) := by
  subst hp; subst hc; subst ho
  obtain ⟨fs, he⟩ := isC_of hi
  refine ⟨kk.1, fun hz p e s m below meth c H locs ls C0 w S L => ?_⟩
  have E := C0.2.2.2.2.2.2.2.2.2.2.2
  rcases q2 with rfl | q2
  · exact va_instE C0.1 C0.2.1 C0.2.2.2.2.1 (E.word q1) (w.recv E hcl he) d (kk.2 hz p e s m below meth c H locs ls C0 w S L)
  · exact va_instY C0.1 C0.2.1 C0.2.2.2.2.1 (E.word q1) (E.nw q2 rfl) (w.recv E hcl he) d (kk.2 hz p e s m below meth c H locs ls C0 w S L)
/-- statics: whole numbers -/
theorem v_getsI {n dd : String} {x : Int32} (hc : gC g = cc) (ho : gO g = own) (hm : (C, n, dd, x) ∈ intS) (q : Cond.fieldLink own index C n dd ∈ lw_all) (d : decode cc pc = .ok (.getstatic index, 3)) (hp : pc + 3 = pc') (kk : V g h pc' lv (.int x :: rest)) : V g h pc lv rest := by
  subst hp; subst hc; subst ho
  refine ⟨kk.1, fun hz p e s m below meth c H locs ls C0 w S L => ?_⟩
  have E := C0.2.2.2.2.2.2.2.2.2.2.2
  exact va_gets C0.1 C0.2.1 (E.2.2.2.2.2.1 _ hm) S C0.2.2.2.2.1 (E.word q) (fun _ h => h) d (kk.2 hz p e s m below meth c H locs ls C0 w S L)
/-- statics: references; the place in aE -/
theorem v_getsR {n dd : String} {j : Nat} (hc : gC g = cc) (ho : gO g = own) (hm : (C, n, dd, j) ∈ refS) (q : Cond.fieldLink own index C n dd ∈ lw_all) (d : decode cc pc = .ok (.getstatic index, 3)) (hp : pc + 3 = pc') (kk : V g h pc' lv (va_rf (aE h j) :: rest)) : V g h pc lv rest := by
  subst hp; subst hc; subst ho
  refine ⟨kk.1, fun hz p e s m below meth c H locs ls C0 w S L => ?_⟩
  have E := C0.2.2.2.2.2.2.2.2.2.2.2
  have := E.2.2.2.2.2.2.1 _ hm
  rw [hz.2.2.2] at this
  exact va_gets C0.1 C0.2.1 this S C0.2.2.2.2.1 (E.word q) (fun _ h => h) d (kk.2 hz p e s m below meth c H locs ls C0 w S L)
theorem v_getsN {n dd : String} {j : Nat} (hc : gC g = cc) (ho : gO g = own) (hm : (C, n, dd, j) ∈ refS) (q : Cond.fieldLink own index C n dd ∈ lw_all) (d : decode cc pc = .ok (.getstatic index, 3)) (hp : pc + 3 = pc') {X : Nat → Option β} (hf : bd (aE h j) X = some o) (kk : ∀ x, aE h j = some x → X x = some o → V g h pc' lv (.ref x :: rest)) : V g h pc lv rest := by
  obtain ⟨x, e, hf⟩ := bd_of hf
  refine v_getsR hc ho hm q d hp ?_
  rw [e]
  exact kk x e hf
/-- a String constant -/
theorem v_ldcS {tx : String} {j : Nat} (hc : gC g = cc) (ho : gO g = own) (hm : (own, index, tx, j) ∈ strS) (d : decode cc pc = .ok (.ldc index, 2)) (hp : pc + 2 = pc') {X : Nat → Option β} (hf : bd (aE h j) X = some o) (kk : ∀ x, aE h j = some x → X x = some o → V g h pc' lv (.ref x :: rest)) : V g h pc lv rest := by
  subst hp; subst hc; subst ho
  obtain ⟨x, e9, hf⟩ := bd_of hf
  have kk := kk x e9 hf
  refine ⟨kk.1, fun hz p e s m below meth c H locs ls C0 w S L => ?_⟩
  have E := C0.2.2.2.2.2.2.2.2.2.2.2
  obtain ⟨x', e1, e2⟩ := E.2.2.2.2.2.2.2.2.1 _ hm
  rw [hz.2.2.2] at e1
  cases e9.symm.trans e1
  exact va_ldcS C0.1 C0.2.1 C0.2.2.2.2.1 e2 d (kk.2 hz p e s m below meth c H locs ls C0 w S L)
theorem v_ldcI {x : Int32} (hc : gC g = cc) (ho : gO g = own) (q : Cond.constant own index x ∈ lw_all) (d : decode cc pc = .ok (.ldc index, 2)) (hp : pc + 2 = pc') (kk : V g h pc' lv (.int x :: rest)) : V g h pc lv rest := by
  subst hp; subst hc; subst ho
  refine ⟨kk.1, fun hz p e s m below meth c H locs ls C0 w S L => ?_⟩
  have E := C0.2.2.2.2.2.2.2.2.2.2.2
  exact lv_ldc C0.1 C0.2.1 C0.2.2.2.2.1 (E.word q) d (kk.2 hz p e s m below meth c H locs ls C0 w S L)
theorem v_ldcwS {tx : String} {j : Nat} (hc : gC g = cc) (ho : gO g = own) (hm : (own, index, tx, j) ∈ strS) (d : decode cc pc = .ok (.ldc_w index, 3)) (hp : pc + 3 = pc') {X : Nat → Option β} (hf : bd (aE h j) X = some o) (kk : ∀ x, aE h j = some x → X x = some o → V g h pc' lv (.ref x :: rest)) : V g h pc lv rest := by
  subst hp; subst hc; subst ho
  obtain ⟨x, e9, hf⟩ := bd_of hf
  have kk := kk x e9 hf
  refine ⟨kk.1, fun hz p e s m below meth c H locs ls C0 w S L => ?_⟩
  have E := C0.2.2.2.2.2.2.2.2.2.2.2
  obtain ⟨x', e1, e2⟩ := E.2.2.2.2.2.2.2.2.1 _ hm
  rw [hz.2.2.2] at e1
  cases e9.symm.trans e1
  intro T hT X
  have K := kk.2 hz p e s m below meth c H locs ls C0 w S L
  obtain ⟨t, a1, b1⟩ := K T hT X
  exact ⟨t, x_ldcwS X C0.1 C0.2.2.2.2.1 e2.1 e2.2 (g := F0 m pc ls rest) rfl (by rw [C0.2.1]; exact d) t a1, b1⟩
/-- the class object of Object[] -/
theorem v_ldcM (hc : gC g = cc) (ho : gO g = own) (q : Cond.classLink own index "[Ljava/lang/Object;" ∈ lw_all) (d : decode cc pc = .ok (.ldc index, 2)) (hp : pc + 2 = pc') {X : Nat → Option β} (hf : bd (aE h 99) X = some o) (kk : ∀ x, aE h 99 = some x → X x = some o → V g h pc' lv (.ref x :: rest)) : V g h pc lv rest := by
  subst hp; subst hc; subst ho
  obtain ⟨x, e9, hf⟩ := bd_of hf
  have kk := kk x e9 hf
  refine ⟨kk.1, fun hz p e s m below meth c H locs ls C0 w S L => ?_⟩
  have E := C0.2.2.2.2.2.2.2.2.2.2.2
  obtain ⟨mi, e1, e2⟩ := E.2.2.2.2.2.2.2.2.2.1.2
  rw [hz.2.2.2] at e1
  cases e9.symm.trans e1
  exact va_ldcM C0.1 C0.2.1 C0.2.2.2.2.1 (E.word q) e2 d (kk.2 hz p e s m below meth c H locs ls C0 w S L)
/-- getClass() of an Object[] -/
theorem v_getC {n : Nat} {c9 : (Nat → Int32) ⊕ (Nat → Int64) ⊕ (Nat → UInt32) ⊕ (Nat → UInt64) ⊕ (Nat → Option Nat)} (hc : gC g = cc) (ho : gO g = own) (q1 : Cond.methodLink own index ⟨"java/lang/Object", "getClass", "()Ljava/lang/Class;"⟩ ∈ lw_all) (q2 : Cond.selects "[Ljava/lang/Object;" ⟨"java/lang/Object", "getClass", "()Ljava/lang/Class;"⟩ ⟨"java/lang/Object", "getClass", "()Ljava/lang/Class;"⟩ ∈ lw_all) (q3 : Cond.instanceMethod ⟨"java/lang/Object", "getClass", "()Ljava/lang/Class;"⟩ ∈ lw_all) (q4 : Cond.native ⟨"java/lang/Object", "getClass", "()Ljava/lang/Class;"⟩ ∈ lw_all)
    (hR : 1 ≤ gFr g ∧ (rest.map fun v => v.category).sum + 14 ≤ gLo g) (d : decode cc pc = .ok (.invokevirtual index, 3)) (hp : pc + 3 = pc') (ha : aC h a = some (.inl (4, n, c9))) {X : Nat → Option β} (hf : bd (aE h 99) X = some o) (kk : ∀ x, aE h 99 = some x → X x = some o → V g h pc' lv (.ref x :: rest)) : V g h pc lv (.ref a :: rest) := by
  subst hp; subst hc; subst ho
  obtain ⟨x, e9, hf⟩ := bd_of hf
  have kk := kk x e9 hf
  refine ⟨kk.1, fun hz p e s m below meth c H locs ls C0 w S L => ?_⟩
  have E := C0.2.2.2.2.2.2.2.2.2.2.2
  obtain ⟨hdc, mi, e1, e2⟩ := E.2.2.2.2.2.2.2.2.2.1
  rw [hz.2.2.2] at e1
  cases e9.symm.trans e1
  obtain ⟨cell, g1, g2, g3, g4, g5, -⟩ := w.2.2 a _ ha
  exact va_getC C0.1 C0.2.1 (C0.2.2.1.trans L.1.symm) C0.2.2.2.2.1 (E.word q1) hdc.use (E.word q2) (E.word q3) (E.word q4) e2 ⟨cell, g1, g5, g2 (fun h => by cases h)⟩ hR.1 hR.2 d (kk.2 hz p e s m below meth c H locs ls C0 w S L)
end VC
