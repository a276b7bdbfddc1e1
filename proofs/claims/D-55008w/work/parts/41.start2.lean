/-! THE START, 2: classes, the abstract heap of the start (printed by gen/mkstart.py) -/
set_option maxRecDepth 100000
set_option maxHeartbeats 1000000
theorem k_ex {s : State} {args : Array Value} (hts : ∀ w ∈ lw_tbl, w.before args s = true) : ∀ (c : Nat) (r : vw_C), vwCl[c]? = some r → ∃ q : ClassId × (Nat → Nat), u_Kn s r.1 r.2.1 r.2.2 q.1 q.2
  | 0, r, h => by cases h; obtain ⟨c, iS, h⟩ := u_known (C := RX1) (T := TX1) (N := 7) (n := 7) hts (fun w h => lw_all_tbl (in_X1 w h)) (hts _ (lw_all_tbl q122)); exact ⟨(c, iS), h⟩
  | 1, r, h => by cases h; obtain ⟨c, iS, h⟩ := u_known (C := RX2) (T := TX2) (N := 4) (n := 4) hts (fun w h => lw_all_tbl (in_X2 w h)) (hts _ (lw_all_tbl q130)); exact ⟨(c, iS), h⟩
  | 2, r, h => by cases h; obtain ⟨c, iS, h⟩ := u_known (C := RX3) (T := TX3) (N := 24) (n := 24) hts (fun w h => lw_all_tbl (in_X3 w h)) (hts _ (lw_all_tbl q2237)); exact ⟨(c, iS), h⟩
  | 3, r, h => by cases h; obtain ⟨c, iS, h⟩ := u_known (C := RX4) (T := TX4) (N := 4) (n := 4) hts (fun w h => lw_all_tbl (in_X4 w h)) (hts _ (lw_all_tbl q930)); exact ⟨(c, iS), h⟩
  | 4, r, h => by cases h; obtain ⟨c, iS, h⟩ := u_known (C := RX5) (T := TX5) (N := 5) (n := 5) hts (fun w h => lw_all_tbl (in_X5 w h)) (hts _ (lw_all_tbl q863)); exact ⟨(c, iS), h⟩
  | 5, r, h => by cases h; obtain ⟨c, iS, h⟩ := u_known (C := RX6) (T := TX6) (N := 1) (n := 1) hts (fun w h => lw_all_tbl (in_X6 w h)) (hts _ (lw_all_tbl q2161)); exact ⟨(c, iS), h⟩
  | 6, r, h => by cases h; obtain ⟨c, iS, h⟩ := u_known (C := RX7) (T := TX7) (N := 8) (n := 8) hts (fun w h => lw_all_tbl (in_X7 w h)) (hts _ (lw_all_tbl q1093)); exact ⟨(c, iS), h⟩
  | 7, r, h => by cases h; obtain ⟨c, iS, h⟩ := u_known (C := RX8) (T := TX8) (N := 3) (n := 3) hts (fun w h => lw_all_tbl (in_X8 w h)) (hts _ (lw_all_tbl q1121)); exact ⟨(c, iS), h⟩
  | 8, r, h => by cases h; obtain ⟨c, iS, h⟩ := u_known (C := RX9) (T := TX9) (N := 3) (n := 3) hts (fun w h => lw_all_tbl (in_X9 w h)) (hts _ (lw_all_tbl q1188)); exact ⟨(c, iS), h⟩
  | 9, r, h => by cases h; obtain ⟨c, iS, h⟩ := u_known (C := RX10) (T := TX10) (N := 7) (n := 7) hts (fun w h => lw_all_tbl (in_X10 w h)) (hts _ (lw_all_tbl q1232)); exact ⟨(c, iS), h⟩
  | 10, r, h => by cases h; obtain ⟨c, iS, h⟩ := u_known (C := RX12) (T := TX12) (N := 4) (n := 4) hts (fun w h => lw_all_tbl (in_X12 w h)) (hts _ (lw_all_tbl q1392)); exact ⟨(c, iS), h⟩
  | 11, r, h => by cases h; obtain ⟨c, iS, h⟩ := u_known (C := RX13) (T := TX13) (N := 5) (n := 5) hts (fun w h => lw_all_tbl (in_X13 w h)) (hts _ (lw_all_tbl q1447)); exact ⟨(c, iS), h⟩
  | 12, r, h => by cases h; obtain ⟨c, iS, h⟩ := u_known (C := RX14) (T := TX14) (N := 1) (n := 1) hts (fun w h => lw_all_tbl (in_X14 w h)) (hts _ (lw_all_tbl q473)); exact ⟨(c, iS), h⟩
  | 13, r, h => by cases h; obtain ⟨c, iS, h⟩ := u_known (C := RX15) (T := TX15) (N := 3) (n := 3) hts (fun w h => lw_all_tbl (in_X15 w h)) (hts _ (lw_all_tbl q488)); exact ⟨(c, iS), h⟩
  | 14, r, h => by cases h; obtain ⟨c, iS, h⟩ := u_known (C := RX16) (T := TX16) (N := 2) (n := 2) hts (fun w h => lw_all_tbl (in_X16 w h)) (hts _ (lw_all_tbl q1963)); exact ⟨(c, iS), h⟩
  | 15, r, h => by cases h; obtain ⟨c, iS, h⟩ := u_known (C := RX17) (T := TX17) (N := 7) (n := 7) hts (fun w h => lw_all_tbl (in_X17 w h)) (hts _ (lw_all_tbl q2042)); exact ⟨(c, iS), h⟩
  | 16, r, h => by cases h; obtain ⟨c, iS, h⟩ := u_known (C := RJ2) (T := TJ2) (N := 3) (n := 3) hts (fun w h => lw_all_tbl (in_J2 w h)) (hts _ (lw_all_tbl q136)); exact ⟨(c, iS), h⟩
  | 17, r, h => by cases h; obtain ⟨c, iS, h⟩ := u_known (C := RJ3) (T := TJ3) (N := 3) (n := 3) hts (fun w h => lw_all_tbl (in_J3 w h)) (hts _ (lw_all_tbl q184)); exact ⟨(c, iS), h⟩
  | 18, r, h => by cases h; obtain ⟨c, iS, h⟩ := u_known (C := RJ5) (T := TJ5) (N := 4) (n := 4) hts (fun w h => lw_all_tbl (in_J5 w h)) (hts _ (lw_all_tbl q202)); exact ⟨(c, iS), h⟩
  | 19, r, h => by cases h; obtain ⟨c, iS, h⟩ := u_known (C := RJ6) (T := TJ6) (N := 4) (n := 4) hts (fun w h => lw_all_tbl (in_J6 w h)) (hts _ (lw_all_tbl q744)); exact ⟨(c, iS), h⟩
  | 20, r, h => by cases h; obtain ⟨c, iS, h⟩ := u_known (C := RJ19) (T := TJ19) (N := 4) (n := 4) hts (fun w h => lw_all_tbl (in_J19 w h)) (hts _ (lw_all_tbl q367)); exact ⟨(c, iS), h⟩
  | 21, r, h => by cases h; obtain ⟨c, iS, h⟩ := u_known (C := RJ12) (T := TJ12) (N := 0) (n := 6) hts (fun w h => nomatch h) (hts _ (lw_all_tbl q273)); exact ⟨(c, iS), h⟩
  | 22, r, h => by cases h; obtain ⟨c, iS, h⟩ := u_known (C := RJ21) (T := TJ21) (N := 0) (n := 6) hts (fun w h => nomatch h) (hts _ (lw_all_tbl q1155)); exact ⟨(c, iS), h⟩
  | 23, r, h => by cases h; obtain ⟨c, iS, h⟩ := u_known (C := RJ23) (T := TJ23) (N := 0) (n := 6) hts (fun w h => nomatch h) (hts _ (lw_all_tbl q1522)); exact ⟨(c, iS), h⟩
  | 24, r, h => by cases h; obtain ⟨c, iS, h⟩ := u_known (C := RJ20) (T := TJ20) (N := 0) (n := 6) hts (fun w h => nomatch h) (hts _ (lw_all_tbl q441)); exact ⟨(c, iS), h⟩
  | 25, r, h => by cases h; obtain ⟨c, iS, h⟩ := u_known (C := RJ25) (T := TJ25) (N := 0) (n := 6) hts (fun w h => nomatch h) (hts _ (lw_all_tbl q1896)); exact ⟨(c, iS), h⟩
  | 26, r, h => by cases h; obtain ⟨c, iS, h⟩ := u_known (C := RJ24) (T := TJ24) (N := 0) (n := 6) hts (fun w h => nomatch h) (hts _ (lw_all_tbl q1540)); exact ⟨(c, iS), h⟩
  | n + 27, r, h => by cases h
theorem kAll {s : State} {args : Array Value} (hts : ∀ w ∈ lw_tbl, w.before args s = true) : ∃ D : va_G, va_K D vwCl [] s := by
  have h : ∀ c : Nat, ∃ q : ClassId × (Nat → Nat), ∀ r, vwCl[c]? = some r → u_Kn s r.1 r.2.1 r.2.2 q.1 q.2 := by
    intro c
    cases hr : vwCl[c]? with
    | none => exact ⟨(0, fun _ => 0), fun r h => by cases h⟩
    | some r => obtain ⟨q, hq⟩ := k_ex hts c r hr; exact ⟨q, fun r' h' => by cases h'; exact hq⟩
  obtain ⟨f, hf⟩ := Classical.axiomOfChoice h
  exact ⟨(fun c => (f c).1, fun c => (f c).2), fun c q hq => hf c q hq, fun k q hk => by cases hk⟩
theorem sel_priv {C : String} {y : MethodName} {s : State} {args : Array Value} {n : Nat} (hy : y.cls ≠ "java/lang/invoke/MethodHandle" ∧ y.cls ≠ "java/lang/invoke/VarHandle")
    (hins : (Cond.instantiable C n).before args s = true) (hpriv : (Cond.privateMethod y).before args s = true) (hinst : (Cond.instanceMethod y).before args s = true) {nn dd : String} (hsm : (Cond.sameMethod y.cls y.cls nn dd).before args s = true) :
    (Cond.selects C y y).before args s = true := by
  obtain ⟨c, k, hc, hk, -, hniab, -, -⟩ := Cond.instantiable_spec hins
  have hni : k.isInterface = false := (Bool.or_eq_false_iff.mp hniab).1
  obtain ⟨mk, methM, hnamed, hmethM, -, -⟩ := Cond.instanceMethod_spec hinst
  have hfound : s.methodFound? y.cls y.name y.desc = some mk := State.methodFound?_of_named hnamed hy
  have hsel : selectMethod {} s.vm c mk = .method mk := selectMethod_private hmethM (Cond.privateMethod_at hpriv mk methM hnamed hmethM)
  obtain ⟨cn, ck, r1, hcn, hck, hni2, -, -⟩ := Cond.sameMethod_found hsm
  have hmc : mk.cls = cn := Option.some.inj ((findClass_of_methodNamed hnamed).symm.trans hcn)
  have hck2 : s.vm.classes[mk.cls]? = some ck := by rw [hmc]; exact hck
  simp only [Cond.before, Cond.holds, Cond.value, hc, hfound, hnamed, hsel, hk, hck2]
  simp; exact hni2
/-- an array of the start -/
theorem arr_at {D : va_G} {s : State} {args : Array Value} {t : Term} {k n : Nat} {c : (Nat → Int32) ⊕ (Nat → Int64) ⊕ (Nat → UInt32) ⊕ (Nat → UInt64) ⊕ (Nat → Option Nat)} (hn : n < 2 ^ 31) (har : (Cond.arrayOf t (tyA k)).before args s = true) (hx : (Cond.exactly t (nmA k)).before args s = true)
    (hle : (Cond.eq (.length t) (.int (Int32.ofNat n))).before args s = true) (hel : ∀ j, j < n → (Term.elem t (.int (Int32.ofNat j))).eval args s none [] s = some (elV c j)) (hf : ∀ j, j < n → fits (tyA k) (elV c j) = true ∧ ∀ y, elV c j ≠ .ref y) :
    ∃ v, t.eval args s none [] s = some (.ref v) ∧ atE D s.heap.size s s.heap v (.inl (k, n, c)) := by
  obtain ⟨v, h1, cell, g1, g2, g3, g4, g5, g6, -⟩ := va_Tof (f := elV c) (A := fun q => s.heap.size ≤ q) hn har (va_eqt hle) hel (fun a ha h => absurd ha (Nat.not_lt.mpr h))
  obtain ⟨a, c0, cell', kk, q1, q2, q3, q4, q5, q6, -⟩ := Cond.exactly_spec hx
  cases h1.symm.trans q1
  cases g1.symm.trans q3
  exact ⟨v, h1, cell, g1, fun _ => by rw [q6]; exact q2, g2, g3, q5, ⟨g4, g5⟩, g6, fun j hj => ⟨(hf j hj).1, fun y hy => absurd hy ((hf j hj).2 y)⟩⟩
theorem con_ok : conS.all (fun r => decide (r.2.2.1.length < 2 ^ 31) && r.2.2.1.all (fun b => fits .byte (.int b))) = true := by decide +kernel
theorem va_OF.slot {D : va_G} {s : State} {ci k : Nat} {C : String} {T : u_T} {N : Nat} {v : Value} {a : Nat} {A : Nat → Prop} {cell : Cell} (hK : va_K D vwCl [] s) (hcl : vwCl[ci]? = some (C, T, N)) (hk : k < N) (h : va_OF (T k).1 (T k).2.1 (T k).2.2.1 v a A s s.heap) (hc : s.heap[a]? = some cell) : cell.slots[D.2 ci k]? = some v ∧ cell.vm ≠ .unknown := by
  obtain ⟨cf, k9, i, f, cell', h1, -, h3, h4, h5, -⟩ := h
  cases hc.symm.trans h3
  obtain ⟨cf', kf', fi', fd', e1, e2⟩ := (hK.1 ci _ hcl).1 k hk
  cases h1.symm.trans e1
  rw [← e2]
  exact ⟨h5, h4⟩
/-- a String constant of the start -/
theorem str_at {D : va_G} {s : State} {args : Array Value} (hK : va_K D vwCl [] s) {r : String × Nat × List Int32 × Int32 × Int32} (hm : r ∈ conS) (hr : ∀ c ∈ cndS r, c.before args s = true) (hx : (Cond.exactly (.field (tmS r) "java/lang/String" "value" "[B") "[B").before args s = true) :
    ∃ a v, (tmS r).eval args s none [] s = some (.ref a) ∧ atE D s.heap.size s s.heap a (.inr (19, [.ref v, .int 0, .int r.2.2.2.1, .int r.2.2.2.2])) ∧ atE D s.heap.size s s.heap v (.inl (3, r.2.2.1.length, .inl (fun j => r.2.2.1.getD j 0))) := by
  have ok := List.all_eq_true.mp con_ok r hm
  simp only [Bool.and_eq_true, decide_eq_true_eq, List.all_eq_true] at ok
  have m1 : ∀ {c}, c ∈ ([.exactly (tmS r) "java/lang/String", .eq (.field (tmS r) "java/lang/String" "coder" "B") (.int 0), .arrayOf (.field (tmS r) "java/lang/String" "value" "[B") .byte, .eq (.length (.field (tmS r) "java/lang/String" "value" "[B")) (.int (Int32.ofNat r.2.2.1.length))] : List Cond) → c.before args s = true := fun h => hr _ (List.mem_append_left _ (List.mem_append_left _ h))
  have m2 : ∀ {c}, c ∈ ([.eq (.field (tmS r) "java/lang/String" "hash" "I") (.int r.2.2.2.1), .eq (.field (tmS r) "java/lang/String" "hashIsZero" "Z") (.int r.2.2.2.2)] : List Cond) → c.before args s = true := fun h => hr _ (List.mem_append_right _ h)
  have hA : ∀ a : Nat, a < s.heap.size → ¬ (fun q => s.heap.size ≤ q) a := fun a ha h => absurd ha (Nat.not_lt.mpr h)
  obtain ⟨v, hv, hat⟩ := arr_at (D := D) (k := 3) (c := .inl (fun j => r.2.2.1.getD j 0)) ok.1 (m1 (c := .arrayOf (.field (tmS r) "java/lang/String" "value" "[B") .byte) (by simp)) hx (m1 (c := .eq (.length (.field (tmS r) "java/lang/String" "value" "[B")) (.int (Int32.ofNat r.2.2.1.length))) (by simp)) (fun j hj => va_eqt (hr _ (List.mem_append_left _ (List.mem_append_right _ (List.mem_map.mpr ⟨j, List.mem_range.mpr hj, rfl⟩))))) (fun j hj => ⟨by
    show fits .byte (.int (r.2.2.1.getD j 0)) = true
    rw [List.getD_eq_getElem?_getD, List.getElem?_eq_getElem hj]
    exact ok.2 _ (List.getElem_mem hj), fun y h => by cases h⟩)
  obtain ⟨a, c0, cell, kk, q1, q2, q3, q4, q5, q6, -⟩ := Cond.exactly_spec (m1 (c := .exactly (tmS r) "java/lang/String") (by simp))
  have s0 := va_OF.slot hK (ci := 19) (k := 0) rfl (by decide) (vk_OFof q1 hv hA) q3
  have s1 := va_OF.slot hK (ci := 19) (k := 1) rfl (by decide) (vk_OFof q1 (va_eqt (m1 (c := .eq (.field (tmS r) "java/lang/String" "coder" "B") (.int 0)) (by simp))) hA) q3
  have s2 := va_OF.slot hK (ci := 19) (k := 2) rfl (by decide) (vk_OFof q1 (va_eqt (m2 (c := .eq (.field (tmS r) "java/lang/String" "hash" "I") (.int r.2.2.2.1)) (by simp))) hA) q3
  have s3 := va_OF.slot hK (ci := 19) (k := 3) rfl (by decide) (vk_OFof q1 (va_eqt (m2 (c := .eq (.field (tmS r) "java/lang/String" "hashIsZero" "Z") (.int r.2.2.2.2)) (by simp))) hA) q3
  refine ⟨a, v, q1, ⟨cell, _, rfl, q3, ?_, s0.2, q5, fun h => ?_, (fun h => by cases h), rfl, ?_⟩, hat⟩
  · rw [q6]
    exact Option.some.inj (q2.symm.trans (hK.1 19 _ rfl).2.1)
  · exact absurd (Array.getElem?_eq_some_iff.mp q3).1 (Nat.not_lt.mpr h)
  · intro k hk
    match k, hk with
    | 0, _ => exact s0.1
    | 1, _ => exact s1.1
    | 2, _ => exact s2.1
    | 3, _ => exact s3.1
    | k + 4, hk => exact absurd hk (by show ¬ k + 4 < 4; omega)

