/-! ROWS over V: arrays, new, casts, statics, constants -/
set_option maxRecDepth 100000
set_option maxHeartbeats 1000000
theorem ixIn_of {i : Int32} {n : Nat} (e : ixIn i n = true) : vp_in i n ∧ i.toNatClampNeg < n ∧ ¬ i < 0 := by
  unfold ixIn at e
  rw [Bool.and_eq_true, decide_eq_true_eq, decide_eq_true_eq] at e
  have h0 : ¬ i < 0 := Int32.not_lt.mpr e.1
  exact ⟨fun q => q.elim h0 (fun q => absurd e.2 (Nat.not_lt.mpr q)), e.2, h0⟩
theorem ldI_of {h : AH} {k a : Nat} {i x : Int32} (e : ldI h k a i = some x) : ∃ n f, aC h a = some (.inl (k, n, .inl f)) ∧ ixIn i n = true ∧ x = f i.toNatClampNeg := by
  unfold ldI at e
  split at e
  · rename_i n f hy
    split at e
    · rename_i h1; cases e; exact ⟨n, f, arr_of hy, h1, rfl⟩
    · cases e
  · cases e
theorem ldL_of {h : AH} {a : Nat} {i : Int32} {x : Int64} (e : ldL h a i = some x) : ∃ n f, aC h a = some (.inl (1, n, .inr (.inl f))) ∧ ixIn i n = true ∧ x = f i.toNatClampNeg := by
  unfold ldL at e
  split at e
  · rename_i n f hy
    split at e
    · rename_i h1; cases e; exact ⟨n, f, arr_of hy, h1, rfl⟩
    · cases e
  · cases e
theorem ldD_of {h : AH} {a : Nat} {i : Int32} {x : UInt64} (e : ldD h a i = some x) : ∃ n f, aC h a = some (.inl (2, n, .inr (.inr (.inr (.inl f))))) ∧ ixIn i n = true ∧ x = f i.toNatClampNeg := by
  unfold ldD at e
  split at e
  · rename_i n f hy
    split at e
    · rename_i h1; cases e; exact ⟨n, f, arr_of hy, h1, rfl⟩
    · cases e
  · cases e
theorem ldQ_of {h : AH} {a : Nat} {i : Int32} {x : Option Nat} (e : ldQ h a i = some x) : ∃ n f, aC h a = some (.inl (4, n, .inr (.inr (.inr (.inr f))))) ∧ ixIn i n = true ∧ x = f i.toNatClampNeg := by
  unfold ldQ at e
  split at e
  · rename_i n f hy
    split at e
    · rename_i h1; cases e; exact ⟨n, f, arr_of hy, h1, rfl⟩
    · cases e
  · cases e
theorem ldN_of {h : AH} {a : Nat} {i : Int32} {x : Nat} (e : ldN h a i = some x) : ldQ h a i = some (some x) := by
  unfold ldN at e
  split at e
  · rename_i q hq; cases e; exact hq
  · cases e
theorem stI_of {h k' : AH} {a : Nat} {i x : Int32} (e : stI h a i x = some k') : ∃ n f, aC h a = some (.inl (0, n, .inl f)) ∧ ixIn i n = true ∧ aB h ≤ a ∧ k' = aUp h a (.inl (0, n, .inl (upd f i.toNatClampNeg x))) := by
  unfold stI at e
  split at e
  · rename_i n f hy
    split at e
    · rename_i h1; cases e; exact ⟨n, f, arr_of hy, h1.1, h1.2, rfl⟩
    · cases e
  · cases e
theorem stB_of {h k' : AH} {a : Nat} {i x : Int32} (e : stB h a i x = some k') : ∃ n f, aC h a = some (.inl (3, n, .inl f)) ∧ ixIn i n = true ∧ aB h ≤ a ∧ k' = aUp h a (.inl (3, n, .inl (upd f i.toNatClampNeg x.toInt8.toInt32))) := by
  unfold stB at e
  split at e
  · rename_i n f hy
    split at e
    · rename_i h1; cases e; exact ⟨n, f, arr_of hy, h1.1, h1.2, rfl⟩
    · cases e
  · cases e
theorem stL_of {h k' : AH} {a : Nat} {i : Int32} {x : Int64} (e : stL h a i x = some k') : ∃ n f, aC h a = some (.inl (1, n, .inr (.inl f))) ∧ ixIn i n = true ∧ aB h ≤ a ∧ k' = aUp h a (.inl (1, n, .inr (.inl (vp_updL f i.toNatClampNeg x)))) := by
  unfold stL at e
  split at e
  · rename_i n f hy
    split at e
    · rename_i h1; cases e; exact ⟨n, f, arr_of hy, h1.1, h1.2, rfl⟩
    · cases e
  · cases e
theorem stD_of {h k' : AH} {a : Nat} {i : Int32} {x : UInt64} (e : stD h a i x = some k') : ∃ n f, aC h a = some (.inl (2, n, .inr (.inr (.inr (.inl f))))) ∧ ixIn i n = true ∧ aB h ≤ a ∧ k' = aUp h a (.inl (2, n, .inr (.inr (.inr (.inl (vf_upd f i.toNatClampNeg x)))))) := by
  unfold stD at e
  split at e
  · rename_i n f hy
    split at e
    · rename_i h1; cases e; exact ⟨n, f, arr_of hy, h1.1, h1.2, rfl⟩
    · cases e
  · cases e
theorem stQ_of {h k' : AH} {a : Nat} {i : Int32} {v : Option Nat} (e : stQ h a i v = some k') : ∃ n f, aC h a = some (.inl (4, n, .inr (.inr (.inr (.inr f))))) ∧ ixIn i n = true ∧ aB h ≤ a ∧ okQ h v = true ∧ k' = aUp h a (.inl (4, n, .inr (.inr (.inr (.inr (va_up f i.toNatClampNeg v)))))) := by
  unfold stQ at e
  split at e
  · rename_i n f hy
    split at e
    · rename_i h1; cases e; exact ⟨n, f, arr_of hy, h1.1, h1.2.1, h1.2.2, rfl⟩
    · cases e
  · cases e
theorem ixIn_le {i : Int32} {n N : Nat} (e : ixIn i n = true) (h : n ≤ N) : ixIn i N = true := by
  simp only [ixIn, Bool.and_eq_true, decide_eq_true_eq] at e ⊢
  exact ⟨e.1, Nat.lt_of_lt_of_le e.2 h⟩
theorem slot_set {cell : Cell} {n i : Nat} {c c' : (Nat → Int32) ⊕ (Nat → Int64) ⊕ (Nat → UInt32) ⊕ (Nat → UInt64) ⊕ (Nat → Option Nat)} {v : Value} (hz : n ≤ cell.slots.size ∧ cell.slots.size.toInt32 = Int32.ofNat n) (hi : i < n) (h : ∀ j, j < n → cell.slots[j]? = some (elV c j)) (hv : elV c' i = v) (ho : ∀ j, j ≠ i → elV c' j = elV c j) : (n ≤ (cell.setSlot i v).slots.size ∧ (cell.setSlot i v).slots.size.toInt32 = Int32.ofNat n) ∧ ∀ j, j < n → (cell.setSlot i v).slots[j]? = some (elV c' j) := by
  have hsz : (cell.setSlot i v).slots.size = cell.slots.size := by simp [Cell.setSlot]
  refine ⟨by rw [hsz]; exact hz, fun j hj => ?_⟩
  by_cases e : j = i
  · subst e
    have h9 : j < cell.slots.size := Nat.lt_of_lt_of_le hi hz.1
    simp [Cell.setSlot, h9, hv]
  · rw [ho j e, ← h j hj]
    simp [Cell.setSlot, Ne.symm e]
theorem fits_i (x : Int32) : fits .int (.int x) = true := rfl
theorem Kin.set {H H1 : Heap} {a i : Nat} {cell : Cell} {v : Value} (h0 : H[a]? = some cell) (h1 : H1[a]? = some (cell.setSlot i v)) (oq : ∀ q : Nat, q ≠ a → H1[q]? = H[q]?) : Kin H H1 := Kin.put h0 h1 rfl rfl oq
/-- after a store into an array -/
theorem Wc.arr {D : va_G} {h : AH} {s : State} {H H1 : Heap} {a k n : Nat} {i : Int32} {cell : Cell} {c c' : (Nat → Int32) ⊕ (Nat → Int64) ⊕ (Nat → UInt32) ⊕ (Nat → UInt64) ⊕ (Nat → Option Nat)} {v : Value} (w : Wc D h s H) (h0 : aC h a = some (.inl (k, n, c))) (hc0 : H[a]? = some cell) (hi : ixIn i n = true)
    (e1 : H1[a]? = some (cell.setSlot i.toNatClampNeg v)) (z : H1.size = H.size) (oq : ∀ q : Nat, q ≠ a → H1[q]? = H[q]?) (hv : elV c' i.toNatClampNeg = v) (ho : ∀ j, j ≠ i.toNatClampNeg → elV c' j = elV c j) (hf : fits (tyA k) v = true) (hr : ∀ y, v = .ref y → va_Any "java/lang/Object" s H y) : Wc D (aUp h a (.inl (k, n, c'))) s H1 := by
  obtain ⟨cell', g1, g2, g3, g4, g5, g6, g7, g8⟩ := w.2.2 a _ h0
  cases g1.symm.trans hc0
  obtain ⟨t1, t2⟩ := slot_set g6 (ixIn_of hi).2.1 g7 hv ho
  refine w.put hc0 e1 rfl rfl z oq ⟨_, e1, g2, g3, g4, g5, t1, t2, fun j hj => ?_⟩
  have hK := Kin.set hc0 e1 oq
  by_cases e : j = i.toNatClampNeg
  · subst e
    rw [hv]
    exact ⟨hf, fun y hy => va_Any.moved (Vm.Alike.refl s.vm) hK (hr y hy)⟩
  · rw [ho j e]
    exact ⟨(g8 j hj).1, fun y hy => va_Any.moved (Vm.Alike.refl s.vm) hK ((g8 j hj).2 y hy)⟩
section VA
variable {g : CT} {h : AH} {pc pc' : Nat} {lv : List (Nat × Value)} {rest : List Value} {cc : ByteArray} {own C ref : String} {T : u_T} {N ci index a : Nat} {ty : Nat → FieldType} {β : Type} {o : β} {i : Int32}
theorem v_iald (hc : gC g = cc) (d : decode cc pc = .ok (.iaload, 1)) (hp : pc + 1 = pc') {X : Int32 → Option β} (hf : bd (ldI h 0 a i) X = some o) (kk : ∀ x, ldI h 0 a i = some x → X x = some o → V g h pc' lv (.int x :: rest)) : V g h pc lv (.int i :: .ref a :: rest) := by
  subst hp; subst hc
  obtain ⟨x, e, hf⟩ := bd_of hf
  have kk := kk x e hf
  obtain ⟨n, f, h0, hi, rfl⟩ := ldI_of e
  refine ⟨kk.1, fun hz p e s m below meth c H locs ls C0 w S L => ?_⟩
  obtain ⟨cell, g1, g2, g3, g4, g5, g6, g7, g8⟩ := w.2.2 a _ h0
  exact W.iald C0.1 C0.2.1 g1 g3 g4 (ixIn_of (ixIn_le hi g6.1)).1 (g7 _ (ixIn_of hi).2.1) rfl rfl d (kk.2 hz p e s m below meth c H locs ls C0 w S L)
theorem v_bald (hc : gC g = cc) (d : decode cc pc = .ok (.baload, 1)) (hp : pc + 1 = pc') {X : Int32 → Option β} (hf : bd (ldI h 3 a i) X = some o) (kk : ∀ x, ldI h 3 a i = some x → X x = some o → V g h pc' lv (.int x :: rest)) : V g h pc lv (.int i :: .ref a :: rest) := by
  subst hp; subst hc
  obtain ⟨x, e, hf⟩ := bd_of hf
  have kk := kk x e hf
  obtain ⟨n, f, h0, hi, rfl⟩ := ldI_of e
  refine ⟨kk.1, fun hz p e s m below meth c H locs ls C0 w S L => ?_⟩
  obtain ⟨cell, g1, g2, g3, g4, g5, g6, g7, g8⟩ := w.2.2 a _ h0
  exact W.bald C0.1 C0.2.1 g1 g3 g4 (ixIn_of (ixIn_le hi g6.1)).1 (g7 _ (ixIn_of hi).2.1) rfl rfl d (kk.2 hz p e s m below meth c H locs ls C0 w S L)
theorem v_lald (hc : gC g = cc) (d : decode cc pc = .ok (.laload, 1)) (hp : pc + 1 = pc') {X : Int64 → Option β} (hf : bd (ldL h a i) X = some o) (kk : ∀ x, ldL h a i = some x → X x = some o → V g h pc' lv (.long x :: rest)) : V g h pc lv (.int i :: .ref a :: rest) := by
  subst hp; subst hc
  obtain ⟨x, e, hf⟩ := bd_of hf
  have kk := kk x e hf
  obtain ⟨n, f, h0, hi, rfl⟩ := ldL_of e
  refine ⟨kk.1, fun hz p e s m below meth c H locs ls C0 w S L => ?_⟩
  obtain ⟨cell, g1, g2, g3, g4, g5, g6, g7, g8⟩ := w.2.2 a _ h0
  exact W.lald C0.1 C0.2.1 g1 g3 g4 (ixIn_of (ixIn_le hi g6.1)).1 (g7 _ (ixIn_of hi).2.1) rfl rfl d (kk.2 hz p e s m below meth c H locs ls C0 w S L)
theorem v_dald (hc : gC g = cc) (d : decode cc pc = .ok (.daload, 1)) (hp : pc + 1 = pc') {X : UInt64 → Option β} (hf : bd (ldD h a i) X = some o) (kk : ∀ x, ldD h a i = some x → X x = some o → V g h pc' lv (.double x :: rest)) : V g h pc lv (.int i :: .ref a :: rest) := by
  subst hp; subst hc
  obtain ⟨x, e, hf⟩ := bd_of hf
  have kk := kk x e hf
  obtain ⟨n, f, h0, hi, rfl⟩ := ldD_of e
  refine ⟨kk.1, fun hz p e s m below meth c H locs ls C0 w S L => ?_⟩
  obtain ⟨cell, g1, g2, g3, g4, g5, g6, g7, g8⟩ := w.2.2 a _ h0
  exact W.dald C0.1 C0.2.1 g1 g3 g4 (ixIn_of (ixIn_le hi g6.1)).1 (g7 _ (ixIn_of hi).2.1) rfl rfl d (kk.2 hz p e s m below meth c H locs ls C0 w S L)
/-- a reference out of an Object[], not null -/
theorem v_aald (hc : gC g = cc) (d : decode cc pc = .ok (.aaload, 1)) (hp : pc + 1 = pc') {X : Nat → Option β} (hf : bd (ldN h a i) X = some o) (kk : ∀ x, ldN h a i = some x → X x = some o → V g h pc' lv (.ref x :: rest)) : V g h pc lv (.int i :: .ref a :: rest) := by
  subst hp; subst hc
  obtain ⟨x, e, hf⟩ := bd_of hf
  have kk := kk x e hf
  obtain ⟨n, f, h0, hi, e0⟩ := ldQ_of (ldN_of e)
  refine ⟨kk.1, fun hz p e s m below meth c H locs ls C0 w S L => ?_⟩
  obtain ⟨cell, g1, g2, g3, g4, g5, g6, g7, g8⟩ := w.2.2 a _ h0
  exact W.aald C0.1 C0.2.1 g1 g3 rfl g4 (ixIn_of (ixIn_le hi g6.1)).1 (by rw [g7 _ (ixIn_of hi).2.1]; show some (va_rf (f i.toNatClampNeg)) = some (.ref x); rw [← e0]; rfl) rfl rfl d (kk.2 hz p e s m below meth c H locs ls C0 w S L)
theorem gA_of {hz : aLe (g0 g) h} (hb : aB h ≤ a) : gA g a := by show aB (g0 g) ≤ a; rw [hz.2.2.1]; exact hb
theorem v_iast {x : Int32} (hc : gC g = cc) (d : decode cc pc = .ok (.iastore, 1)) (hp : pc + 1 = pc') {X : AH → Option β} (hf : bd (stI h a i x) X = some o) (kk : ∀ h1, stI h a i x = some h1 → X h1 = some o → V g h1 pc' lv rest) : V g h pc lv (.int x :: .int i :: .ref a :: rest) := by
  subst hp; subst hc
  obtain ⟨h1, e, hf⟩ := bd_of hf
  have kk := kk h1 e hf
  obtain ⟨n, f, h0, hi, hba, rfl⟩ := stI_of e
  refine ⟨(aLe.up h a _).tr kk.1, fun hz p e s m below meth c H locs ls C0 w S L => ?_⟩
  obtain ⟨cell, g1, g2, g3, g4, g5, g6, g7, g8⟩ := w.2.2 a _ h0
  exact W.iast C0.1 C0.2.1 g1 g3 g4 (ixIn_of (ixIn_le hi g6.1)).1 rfl rfl d fun H1 e1 z oq => kk.2 (hz.tr (aLe.up h a _)) p e s m below meth c H1 _ ls C0 (w.arr h0 g1 hi e1 z oq (by simp [elV, upd]) (fun j hj => by simp [elV, upd, hj]) rfl (fun y hy => by cases hy)) (S.put z oq (gA_of (hz := hz) hba)) L
theorem v_bast {x : Int32} (hc : gC g = cc) (d : decode cc pc = .ok (.bastore, 1)) (hp : pc + 1 = pc') {X : AH → Option β} (hf : bd (stB h a i x) X = some o) (kk : ∀ h1, stB h a i x = some h1 → X h1 = some o → V g h1 pc' lv rest) : V g h pc lv (.int x :: .int i :: .ref a :: rest) := by
  subst hp; subst hc
  obtain ⟨h1, e, hf⟩ := bd_of hf
  have kk := kk h1 e hf
  obtain ⟨n, f, h0, hi, hba, rfl⟩ := stB_of e
  refine ⟨(aLe.up h a _).tr kk.1, fun hz p e s m below meth c H locs ls C0 w S L => ?_⟩
  obtain ⟨cell, g1, g2, g3, g4, g5, g6, g7, g8⟩ := w.2.2 a _ h0
  exact W.bast C0.1 C0.2.1 g1 g3 g4 (ixIn_of (ixIn_le hi g6.1)).1 rfl rfl d fun H1 e1 z oq => kk.2 (hz.tr (aLe.up h a _)) p e s m below meth c H1 _ ls C0 (w.arr h0 g1 hi e1 z oq (by simp [elV, upd, narrow_byte]) (fun j hj => by simp [elV, upd, hj]) (by rw [narrow_byte]; exact pk_fb x) (fun y hy => by rw [narrow_byte] at hy; cases hy)) (S.put z oq (gA_of (hz := hz) hba)) L
theorem v_last {x : Int64} (hc : gC g = cc) (d : decode cc pc = .ok (.lastore, 1)) (hp : pc + 1 = pc') {X : AH → Option β} (hf : bd (stL h a i x) X = some o) (kk : ∀ h1, stL h a i x = some h1 → X h1 = some o → V g h1 pc' lv rest) : V g h pc lv (.long x :: .int i :: .ref a :: rest) := by
  subst hp; subst hc
  obtain ⟨h1, e, hf⟩ := bd_of hf
  have kk := kk h1 e hf
  obtain ⟨n, f, h0, hi, hba, rfl⟩ := stL_of e
  refine ⟨(aLe.up h a _).tr kk.1, fun hz p e s m below meth c H locs ls C0 w S L => ?_⟩
  obtain ⟨cell, g1, g2, g3, g4, g5, g6, g7, g8⟩ := w.2.2 a _ h0
  exact W.last C0.1 C0.2.1 g1 g3 g4 (ixIn_of (ixIn_le hi g6.1)).1 rfl rfl d fun H1 e1 z oq => kk.2 (hz.tr (aLe.up h a _)) p e s m below meth c H1 _ ls C0 (w.arr h0 g1 hi e1 z oq (by simp [elV, vp_updL]) (fun j hj => by simp [elV, vp_updL, hj]) rfl (fun y hy => by cases hy)) (S.put z oq (gA_of (hz := hz) hba)) L
theorem v_dast {x : UInt64} (hc : gC g = cc) (d : decode cc pc = .ok (.dastore, 1)) (hp : pc + 1 = pc') {X : AH → Option β} (hf : bd (stD h a i x) X = some o) (kk : ∀ h1, stD h a i x = some h1 → X h1 = some o → V g h1 pc' lv rest) : V g h pc lv (.double x :: .int i :: .ref a :: rest) := by
  subst hp; subst hc
  obtain ⟨h1, e, hf⟩ := bd_of hf
  have kk := kk h1 e hf
  obtain ⟨n, f, h0, hi, hba, rfl⟩ := stD_of e
  refine ⟨(aLe.up h a _).tr kk.1, fun hz p e s m below meth c H locs ls C0 w S L => ?_⟩
  obtain ⟨cell, g1, g2, g3, g4, g5, g6, g7, g8⟩ := w.2.2 a _ h0
  exact W.dast C0.1 C0.2.1 g1 g3 g4 (ixIn_of (ixIn_le hi g6.1)).1 rfl rfl d fun H1 e1 z oq => kk.2 (hz.tr (aLe.up h a _)) p e s m below meth c H1 _ ls C0 (w.arr h0 g1 hi e1 z oq (by simp [elV, vf_upd]) (fun j hj => by simp [elV, vf_upd, hj]) rfl (fun y hy => by cases hy)) (S.put z oq (gA_of (hz := hz) hba)) L
end VA
/-- every class of the table may stand for an Object -/
theorem any_words : ∀ r ∈ vwCl, Cond.castable r.1 "java/lang/Object" ∈ lw_tbl := by
  exact List.forall_mem_cons.mpr ⟨q2701, List.forall_mem_cons.mpr ⟨q2702, List.forall_mem_cons.mpr ⟨q2706, List.forall_mem_cons.mpr ⟨q2707, List.forall_mem_cons.mpr ⟨q2710, List.forall_mem_cons.mpr ⟨q2730, List.forall_mem_cons.mpr ⟨q2712, List.forall_mem_cons.mpr ⟨q2713, List.forall_mem_cons.mpr ⟨q2715, List.forall_mem_cons.mpr ⟨q2716, List.forall_mem_cons.mpr ⟨q2717, List.forall_mem_cons.mpr ⟨q2718, List.forall_mem_cons.mpr ⟨q2723, List.forall_mem_cons.mpr ⟨q2724, List.forall_mem_cons.mpr ⟨q2727, List.forall_mem_cons.mpr ⟨q2728, List.forall_mem_cons.mpr ⟨q2703, List.forall_mem_cons.mpr ⟨q2704, List.forall_mem_cons.mpr ⟨q2705, List.forall_mem_cons.mpr ⟨q2709, List.forall_mem_cons.mpr ⟨q2725, List.forall_mem_cons.mpr ⟨q2708, List.forall_mem_cons.mpr ⟨q2714, List.forall_mem_cons.mpr ⟨q2720, List.forall_mem_cons.mpr ⟨q2719, List.forall_mem_cons.mpr ⟨q2726, List.forall_mem_cons.mpr ⟨q2721, fun _ h => absurd h List.not_mem_nil⟩⟩⟩⟩⟩⟩⟩⟩⟩⟩⟩⟩⟩⟩⟩⟩⟩⟩⟩⟩⟩⟩⟩⟩⟩⟩⟩
