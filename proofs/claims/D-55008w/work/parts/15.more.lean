/-! ROWS over V: references in arrays, new, casts, statics, constants -/
set_option maxRecDepth 100000
set_option maxHeartbeats 1000000
theorem isO_of {h : AH} {a : Nat} (e : isO h a = true) : ∃ x, aC h a = some (.inr x) := by
  unfold isO at e
  split at e
  · rename_i x hx; exact ⟨x, hx⟩
  · cases e
theorem atE.any {D : va_G} {B : Nat} {E : Nat → Option Nat} {s : State} {H : Heap} {a b : Nat} {x : Nat × List Value} (En : Ent D b E s) (h : atE D B s H a (.inr x)) : va_Any "java/lang/Object" s H a := by
  obtain ⟨cell, r, h1, q1, q2, q3, q5, -⟩ := h
  obtain ⟨hS, hfc, kC, hkC, hkind⟩ := En.kK.1 _ _ h1
  have hm : r ∈ vwCl := List.mem_of_getElem? h1
  obtain ⟨c3, c4, hc3, hc4, hasg⟩ := Cond.castable_spec ((En.nw (any_words r hm) rfl).use (A := #[]) rfl)
  refine ⟨cell, q1, q5, ⟨kC, by rw [q2]; exact hkC⟩, fun comp hcomp => ?_⟩
  cases Option.some.inj (hc4.symm.trans hcomp)
  cases Option.some.inj (hc3.symm.trans hfc)
  rw [q2]
  exact hasg
theorem nmA_eq (k : Nat) : "[" ++ (tyA k).toString = nmA k := by
  match k with
  | 0 => rfl
  | 1 => rfl
  | 2 => rfl
  | 3 => rfl
  | k + 4 => rfl
section VB
variable {g : CT} {h : AH} {pc pc' : Nat} {lv : List (Nat × Value)} {rest : List Value} {cc : ByteArray} {own C ref : String} {T : u_T} {N ci index a : Nat} {ty : Nat → FieldType} {β : Type} {o : β} {i : Int32}
/-- a known object into an Object[] -/
theorem v_aast {v : Nat} (hc : gC g = cc) (d : decode cc pc = .ok (.aastore, 1)) (hp : pc + 1 = pc') {X : AH → Option β} (hf : bd (stQ h a i (some v)) X = some o) (kk : ∀ h1, stQ h a i (some v) = some h1 → X h1 = some o → V g h1 pc' lv rest) : V g h pc lv (.ref v :: .int i :: .ref a :: rest) := by
  subst hp; subst hc
  obtain ⟨h1, e, hf⟩ := bd_of hf
  have kk := kk h1 e hf
  obtain ⟨n, f, h0, hi, hba, hok, rfl⟩ := stQ_of e
  obtain ⟨x, hx⟩ := isO_of (show isO h v = true from hok)
  refine ⟨(aLe.up h a _).tr kk.1, fun hz p e s m below meth c H locs ls C0 w S L => ?_⟩
  have E := C0.2.2.2.2.2.2.2.2.2.2.2
  obtain ⟨cell, g1, g2, g3, g4, g5, g6, g7, g8⟩ := w.2.2 a _ h0
  have hany := (w.2.2 v _ hx).any E
  obtain ⟨cellV, v1, v3, ⟨kC, hkC⟩, hasg⟩ := id hany
  obtain ⟨comp, c9, k9, f1, -, f3, f4, f5⟩ := Cond.arrayOver_spec E.2.2.2.1
  have hce : c9 = cell.cls := Option.some.inj (f5.symm.trans (g2 (fun h => by cases h)))
  rw [hce] at f3
  obtain ⟨kE, hkE, -⟩ := Vm.findClass_spec f1
  exact W.aast C0.1 C0.2.1 g1 g3.1 g4 f3 f4 rfl hkE ⟨(ixIn_of hi).2.2, Nat.lt_of_lt_of_le (ixIn_of hi).2.1 g6.1⟩ v1 (fun q hq => by rw [hq] at v3; cases v3) hkC (hasg _ f1) rfl rfl d fun H1 e1 z oq => kk.2 (hz.tr (aLe.up h a _)) p _ s m below meth c H1 _ ls C0 (w.arr h0 g1 hi e1 z oq (by simp [elV, va_up, va_rf]) (fun j hj => by simp [elV, va_up, hj]) rfl (fun y hy => by cases hy; exact hany)) (S.put z oq (gA_of (hz := hz) hba)) L
theorem v_aastN (hc : gC g = cc) (d : decode cc pc = .ok (.aastore, 1)) (hp : pc + 1 = pc') {X : AH → Option β} (hf : bd (stQ h a i none) X = some o) (kk : ∀ h1, stQ h a i none = some h1 → X h1 = some o → V g h1 pc' lv rest) : V g h pc lv (.null :: .int i :: .ref a :: rest) := by
  subst hp; subst hc
  obtain ⟨h1, e, hf⟩ := bd_of hf
  have kk := kk h1 e hf
  obtain ⟨n, f, h0, hi, hba, hok, rfl⟩ := stQ_of e
  refine ⟨(aLe.up h a _).tr kk.1, fun hz p e s m below meth c H locs ls C0 w S L => ?_⟩
  obtain ⟨cell, g1, g2, g3, g4, g5, g6, g7, g8⟩ := w.2.2 a _ h0
  exact va_WaastN C0.1 C0.2.1 g1 g3 g4 (ixIn_of (ixIn_le hi g6.1)).1 rfl rfl d fun H1 e1 z oq => kk.2 (hz.tr (aLe.up h a _)) p _ s m below meth c H1 _ ls C0 (w.arr h0 g1 hi e1 z oq (by simp [elV, va_up, va_rf]) (fun j hj => by simp [elV, va_up, hj]) rfl (fun y hy => by cases hy)) (S.put z oq (gA_of (hz := hz) hba)) L
theorem aLn_of {x : Int32} (e : aLn h a = some x) : ∃ k n c, aC h a = some (.inl (k, n, c)) ∧ x = Int32.ofNat n := by
  unfold aLn at e
  split at e
  · rename_i y hy; cases e; exact ⟨y.1, y.2.1, y.2.2, hy, rfl⟩
  · cases e
theorem v_alen (hc : gC g = cc) (d : decode cc pc = .ok (.arraylength, 1)) (hp : pc + 1 = pc') {X : Int32 → Option β} (hf : bd (aLn h a) X = some o) (kk : ∀ x, aLn h a = some x → X x = some o → V g h pc' lv (.int x :: rest)) : V g h pc lv (.ref a :: rest) := by
  subst hp; subst hc
  obtain ⟨x, e, hf⟩ := bd_of hf
  have kk := kk x e hf
  obtain ⟨k, n, f, h0, rfl⟩ := aLn_of e
  refine ⟨kk.1, fun hz p e s m below meth c H locs ls C0 w S L => ?_⟩
  obtain ⟨cell, g1, g2, g3, g4, g5, g6, g7, g8⟩ := w.2.2 a _ h0
  exact W.alen (n := Int32.ofNat n) C0.1 C0.2.1 g1 g3 g6.2 rfl rfl d (kk.2 hz p e s m below meth c H locs ls C0 w S L)
theorem room_c {h0 hF k : AH} {n : Nat} {e : AE} (h1 : aLe h0 h) (h2 : aLe (aNew h n e) hF) : aZ h - aZ h0 + 1 ≤ aZ hF - aZ h0 ∧ aS h - aS h0 + n ≤ aS hF - aS h0 := by
  have a1 := h1.1; have a2 := h1.2.1; have b1 := h2.1; have b2 := h2.2.1
  rw [aZ_new] at b1; rw [aS_new] at b2
  omega
theorem cnt_c {h0 : AH} {n : Nat} {e : AE} (h1 : aLe h0 h) : aZ (aNew h n e) - aZ h0 = aZ h - aZ h0 + 1 ∧ aS (aNew h n e) - aS h0 = aS h - aS h0 + n := by
  have a1 := h1.1; have a2 := h1.2.1
  rw [aZ_new, aS_new]
  omega
theorem nwA_of {k : Nat} {n : Int32} {q : Nat} {h1 : AH} (e : nwA h k n = some (q, h1)) : 0 ≤ n ∧ n.toNatClampNeg ≤ 65536 ∧ q = aZ h ∧ h1 = aNew h n.toNatClampNeg (.inl (k, n.toNatClampNeg, zer k)) := by
  unfold nwA at e
  split at e
  · rename_i h9; cases e; exact ⟨h9.1, h9.2, rfl, rfl⟩
  · cases e
/-- newarray of a number's type: kind k -/
theorem v_newa {k : Nat} {at0 : ArrayType} {n : Int32} (hc : gC g = cc) (hat : newarray.typeOf at0 = tyA k) (hk : k < 4) (q : Cond.arrayClass (newarray.typeOf at0) ∈ lw_all) (d : decode cc pc = .ok (.newarray at0, 2)) (hp : pc + 2 = pc') {X : Nat → AH → Option β} (hf : bd2 (nwA h k n) X = some o) (kk : ∀ q h1, nwA h k n = some (q, h1) → X q h1 = some o → V g h1 pc' lv (.ref q :: rest)) : V g h pc lv (.int n :: rest) := by
  subst hp; subst hc
  obtain ⟨q, h1, e, hf⟩ := bd2_of hf
  have kk := kk q h1 e hf
  obtain ⟨hn, hb, rfl, rfl⟩ := nwA_of e
  refine ⟨(aLe.nw h _ _).tr kk.1, fun hz p e s m below meth c H locs ls C0 w S L => ?_⟩
  have E := C0.2.2.2.2.2.2.2.2.2.2.2
  have hroom := room_c (k := h) hz kk.1
  have hcb : componentBytes (newarray.typeOf at0) ≤ 8 := by cases at0 <;> decide
  refine va_newaK C0.1 C0.2.1 (E.word q) rfl d rfl (Int32.not_lt.mpr hn) rfl (Nat.le_trans (Nat.mul_le_mul hb hcb) (Nat.le_of_ble_eq_true rfl)) hroom.1 hroom.2 rfl fun H1 cA e1 z1 o1 hAr hNm => ?_
  have hcnt := cnt_c (n := n.toNatClampNeg) (e := .inl (k, n.toNatClampNeg, zer k)) hz
  rw [← hcnt.1, ← hcnt.2]
  have hq : H.size = aZ h := w.1
  refine W.eq (g2 := F0 m (pc + 2) ls (.ref (aZ h) :: rest)) (by rw [← hq]) ?_
  refine kk.2 (hz.tr (aLe.nw h _ _)) p e s m below meth c H1 locs ls C0 (w.new z1 o1 ⟨_, e1, ?_, ?_, (fun h => by cases h), rfl, ⟨Nat.le_of_eq (arrV_size _ _ _).symm, by rw [arrV_size] <;> rfl⟩, fun j hj => ?_, fun j hj => ?_⟩) (S.new z1 o1) L
  · intro _; rw [← nmA_eq k, ← hat]; exact hNm
  · rw [← hat]; exact hAr _ _
  · rw [arrV_read _ _ hj, hat]
    match k, hk with
    | 0, _ => rfl
    | 1, _ => rfl
    | 2, _ => rfl
    | 3, _ => rfl
  · match k, hk with
    | 0, _ => exact ⟨rfl, fun y hy => by cases hy⟩
    | 1, _ => exact ⟨rfl, fun y hy => by cases hy⟩
    | 2, _ => exact ⟨rfl, fun y hy => by cases hy⟩
    | 3, _ => exact ⟨rfl, fun y hy => by cases hy⟩
/-- new Object[n] -/
theorem v_anew {n : Int32} (hc : gC g = cc) (ho : gO g = own) (q : Cond.classLink own index "java/lang/Object" ∈ lw_all) (d : decode cc pc = .ok (.anewarray index, 3)) (hp : pc + 3 = pc') {X : Nat → AH → Option β} (hf : bd2 (nwA h 4 n) X = some o) (kk : ∀ q h1, nwA h 4 n = some (q, h1) → X q h1 = some o → V g h1 pc' lv (.ref q :: rest)) : V g h pc lv (.int n :: rest) := by
  subst hp; subst hc; subst ho
  obtain ⟨q9, h1, e, hf⟩ := bd2_of hf
  have kk := kk q9 h1 e hf
  obtain ⟨hn, hb, rfl, rfl⟩ := nwA_of e
  refine ⟨(aLe.nw h _ _).tr kk.1, fun hz p e s m below meth c H locs ls C0 w S L => ?_⟩
  have E := C0.2.2.2.2.2.2.2.2.2.2.2
  have hroom := room_c (k := h) hz kk.1
  refine W.anew C0.1 C0.2.1 C0.2.2.2.2.1 (E.word q) (va_AO.use E.2.2.2.1) rfl d rfl (Int32.not_lt.mpr hn) (Nat.le_trans (Nat.mul_le_mul_right 4 hb) (Nat.le_of_ble_eq_true rfl)) hroom.1 hroom.2 fun cA kA comp f1 f2 f3 f4 => ?_
  generalize hH1 : H.push ({ cls := cA, slots := Array.replicate n.toNatClampNeg .null, vm := .none } : Cell) = H1
  have z1 : H1.size = H.size + 1 := by rw [← hH1, Array.size_push]
  have e1 : H1[H.size]? = some (arrV cA n.toNatClampNeg (fun _ => .null)) := by rw [← hH1, Array.getElem?_push_size, ← arrV_new]
  have o1 : ∀ q : Nat, q < H.size → H1[q]? = H[q]? := fun q hq => by rw [← hH1, Array.getElem?_push, if_neg (Nat.ne_of_lt hq)]
  have hcnt := cnt_c (n := n.toNatClampNeg) (e := .inl (4, n.toNatClampNeg, zer 4)) hz
  rw [← hcnt.1, ← hcnt.2]
  have hq : H.size = aZ h := w.1
  refine W.eq (g2 := F0 m (pc + 3) ls (.ref (aZ h) :: rest)) (by rw [← hq]) ?_
  refine kk.2 (hz.tr (aLe.nw h _ _)) p e s m below meth c H1 locs ls C0 (w.new z1 o1 ⟨_, e1, fun _ => f1, ⟨(fun k h => by cases h), kA, f2, comp, f3⟩, (fun h => by cases h), rfl, ⟨Nat.le_of_eq (arrV_size _ _ _).symm, by rw [arrV_size] <;> rfl⟩, (fun j hj => by rw [arrV_read _ _ hj]; rfl), fun j hj => ⟨rfl, fun y hy => by cases hy⟩⟩) (S.new z1 o1) L
/-- new -/
theorem v_new {fs : List Value} (hc : gC g = cc) (ho : gO g = own) (K : ClsOk ci C T N ty) (q1 : Cond.classLink own index C ∈ lw_all) (q2 : Cond.instantiable C N ∈ lw_all) (q3 : Cond.initialized C ∈ lw_all) (hl : fs.length = N) (hfs : ∀ j, j < N → defaultValue (ty j) = vp_V fs j) (d : decode cc pc = .ok (.new index, 3)) (hp : pc + 3 = pc') (kk : V g (aNew h N (.inr (ci, fs))) pc' lv (.ref (aZ h) :: rest)) : V g h pc lv rest := by
  subst hp; subst hc; subst ho
  refine ⟨(aLe.nw h _ _).tr kk.1, fun hz p e s m below meth c H locs ls C0 w S L => ?_⟩
  have E := C0.2.2.2.2.2.2.2.2.2.2.2
  have hroom := room_c (k := h) hz kk.1
  obtain ⟨hcl, hin, hty, hdn⟩ := K
  have hts : ∀ w ∈ lw_all, w.before (gV g).toArray s = true := fun w hw => E.word hw
  have hKn := E.kK.1 ci _ hcl
  refine W.newcK C0.1 C0.2.1 C0.2.2.2.2.1 (hts _ q1) (hts _ q2) (hts _ q3) rfl d hroom.1 hroom.2 hKn.2.1 rfl fun H1 kC hkC e1 z1 o1 => ?_
  have hcnt := cnt_c (n := N) (e := .inr (ci, fs)) hz
  rw [← hcnt.1, ← hcnt.2]
  have hq : H.size = aZ h := w.1
  refine W.eq (g2 := F0 m (pc + 3) ls (.ref (aZ h) :: rest)) (by rw [← hq]) ?_
  obtain ⟨cell, b1, b2, b3, b4⟩ := u_born ty hts hin hKn hkC e1 hty
  have hbl : cell = blank (gD g |>.1 ci) kC := Option.some.inj (b1.symm.trans e1)
  refine kk.2 (hz.tr (aLe.nw h _ _)) p e s m below meth c H1 locs ls C0 (w.new z1 o1 ⟨cell, _, hcl, b1, b2, (by rw [b3]; exact (fun h => by cases h)), (by rw [b3]; rfl), fun _ => b3, (fun _ => by rw [hbl]; exact ⟨rfl, rfl⟩), hl, fun k hk => (b4 k hk).trans (congrArg some (hfs k hk))⟩) (S.new z1 o1) L
end VB
