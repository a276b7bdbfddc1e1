/-! ROWS over V that read and write the heap -/
set_option maxRecDepth 100000
set_option maxHeartbeats 1000000
/-- a class of the table: its words, its fields' types and names -/
def ClsOk (ci : Nat) (C : String) (T : u_T) (N : Nat) (ty : Nat → FieldType) : Prop := vwCl[ci]? = some (C, T, N) ∧ (∀ w ∈ u_ws C T N, w ∈ lw_all) ∧ (∀ k, k < N → parseFieldDescriptor (T k).2.2.1 = some (ty k)) ∧ (∀ a, a < N → ∀ b, b < N → a ≠ b → (T a).2.1 ≠ (T b).2.1)
theorem gtF_of {h : AH} {ci a k : Nat} {v : Value} (e : gtF h ci a k = some v) : ∃ fs, aC h a = some (.inr (ci, fs)) ∧ fs[k]? = some v := by
  unfold gtF at e
  split at e
  · rename_i o ho
    split at e
    · rename_i h1
      exact ⟨o.2, by show h.1 a = _; rw [ho, ← h1], e⟩
    · cases e
  · cases e
theorem gtI_F {h : AH} {ci a k : Nat} {x : Int32} (e : gtI h ci a k = some x) : gtF h ci a k = some (.int x) := by
  unfold gtI vI at e
  split at e
  · rename_i y hy; rw [hy]; cases e; rfl
  · cases e
theorem gtR_F {h : AH} {ci a k q : Nat} (e : gtR h ci a k = some q) : gtF h ci a k = some (.ref q) := by
  unfold gtR vRf at e
  split at e
  · rename_i y hy; rw [hy]; cases e; rfl
  · cases e
theorem gtO_F {h : AH} {ci a k : Nat} {r : Option Nat} (e : gtO h ci a k = some r) : gtF h ci a k = some (va_rf r) := by
  unfold gtO vO at e
  split at e
  · rename_i hy; rw [hy]; cases e; rfl
  · rename_i y hy; rw [hy]; cases e; rfl
  · cases e
theorem stF_of {h k' : AH} {ci a k : Nat} {v : Value} (e : stF h ci a k v = some k') : ∃ fs, aC h a = some (.inr (ci, fs)) ∧ aB h ≤ a ∧ k < fs.length ∧ k' = aUp h a (.inr (ci, fs.set k v)) := by
  unfold stF at e
  split at e
  · rename_i o ho
    split at e
    · rename_i h1
      cases e
      exact ⟨o.2, by show h.1 a = _; rw [ho, ← h1.1], h1.2.1, h1.2.2, rfl⟩
    · cases e
  · cases e
theorem isC_of {h : AH} {ci a : Nat} (e : isC h ci a = true) : ∃ fs, aC h a = some (.inr (ci, fs)) := by
  unfold isC at e
  split at e
  · rename_i o ho
    have : o.1 = ci := by simpa using e
    exact ⟨o.2, by show h.1 a = _; rw [ho, ← this]⟩
  · cases e
theorem arr_of {h : AH} {k a : Nat} {x : vp_A} (e : arr h k a = some x) : aC h a = some (.inl (k, x)) := by
  unfold arr at e
  split at e
  · rename_i y hy
    split at e
    · rename_i h1
      cases e
      show h.1 a = _
      rw [hy, ← h1]
    · cases e
  · cases e
theorem Kin.put {H H1 : Heap} {a : Nat} {cell cell' : Cell} (h0 : H[a]? = some cell) (h1 : H1[a]? = some cell') (hc : cell'.cls = cell.cls) (hv : cell'.vm = cell.vm) (oq : ∀ q : Nat, q ≠ a → H1[q]? = H[q]?) : Kin H H1 := by
  intro q c9 h9
  by_cases e : q = a
  · subst e
    rw [h0] at h9
    cases h9
    exact ⟨cell', h1, hc, hv⟩
  · exact ⟨c9, by rw [oq q e]; exact h9, rfl, rfl⟩
theorem Wc.put {D : va_G} {h : AH} {s : State} {H H1 : Heap} {a : Nat} {e : AE} {cell cell' : Cell} (w : Wc D h s H) (h0 : H[a]? = some cell) (h1 : H1[a]? = some cell') (hc : cell'.cls = cell.cls) (hv : cell'.vm = cell.vm) (z : H1.size = H.size) (oq : ∀ q : Nat, q ≠ a → H1[q]? = H[q]?) (he : atE D (aB h) s H1 a e) : Wc D (aUp h a e) s H1 := by
  refine ⟨z.trans w.1, w.2.1, fun a' e' h' => ?_⟩
  rw [aC_up] at h'
  by_cases q : a' = a
  · rw [if_pos q] at h'
    cases h'
    rw [q]
    exact he
  · rw [if_neg q] at h'
    exact (w.2.2 a' e' h').moved (Vm.Alike.refl s.vm) (Kin.put h0 h1 hc hv oq) (oq a' q)
theorem Kin.new {H H1 : Heap} (oq : ∀ q : Nat, q < H.size → H1[q]? = H[q]?) : Kin H H1 := fun q c9 h9 => ⟨c9, by rw [oq q (Array.getElem?_eq_some_iff.mp h9).1]; exact h9, rfl, rfl⟩
theorem atE.lt {D : va_G} {B : Nat} {s : State} {H : Heap} {a : Nat} {e : AE} (h : atE D B s H a e) : a < H.size := by
  cases e with
  | inl x => obtain ⟨cell, h1, -⟩ := h; exact (Array.getElem?_eq_some_iff.mp h1).1
  | inr o => obtain ⟨cell, r, -, h1, -⟩ := h; exact (Array.getElem?_eq_some_iff.mp h1).1
theorem Wc.new {D : va_G} {h : AH} {s : State} {H H1 : Heap} {n : Nat} {e : AE} (w : Wc D h s H) (z : H1.size = H.size + 1) (oq : ∀ q : Nat, q < H.size → H1[q]? = H[q]?) (he : atE D (aB h) s H1 H.size e) : Wc D (aNew h n e) s H1 := by
  refine ⟨z.trans (by rw [aZ_new, w.1]), Nat.le_trans w.2.1 (Nat.le_succ _), fun a' e' h' => ?_⟩
  rw [aC_new] at h'
  by_cases q : a' = aZ h
  · rw [if_pos q] at h'
    cases h'
    rw [q, ← w.1]
    exact he
  · rw [if_neg q] at h'
    have h2 := w.2.2 a' e' h'
    exact h2.moved (Vm.Alike.refl s.vm) (Kin.new oq) (oq a' h2.lt)
theorem Wc.lt {D : va_G} {h : AH} {s : State} {H : Heap} (w : Wc D h s H) {a : Nat} {e : AE} (he : aC h a = some e) : a < aZ h := by rw [← w.1]; exact (w.2.2 a e he).lt
theorem va_S.new {A : Nat → Prop} {H0 H H1 : Heap} {locs : List Loc} (h : va_S A H0 H locs) (z : H1.size = H.size + 1) (oq : ∀ q : Nat, q < H.size → H1[q]? = H[q]?) : va_S A H0 H1 locs :=
  ⟨Nat.le_trans h.1 (by omega), fun x h1 h2 => (oq x (Nat.lt_of_lt_of_le h1 h.1)).trans (h.2.1 x h1 h2), h.2.2⟩
section VG
variable {g : CT} {h : AH} {pc pc' : Nat} {lv : List (Nat × Value)} {rest : List Value} {cc : ByteArray} {own C ref : String} {T : u_T} {N ci index a : Nat} {ty : Nat → FieldType} {β : Type} {o : β}
/-- getfield -/
theorem v_gf (hc : gC g = cc) (ho : gO g = own) (K : ClsOk ci C T N ty) (k : Nat) (hk : k < N) (q : Cond.fieldLink own index ref (T k).2.1 (T k).2.2.1 ∈ lw_all) (hs : (T k).1 = ref ∨ Cond.sameField ref (T k).1 (T k).2.1 (T k).2.2.1 ∈ lw_all) (d : decode cc pc = .ok (.getfield index, 3)) (hp : pc + 3 = pc') {v : Value} (hv : gtF h ci a k = some v) (kk : V g h pc' lv (v :: rest)) : V g h pc lv (.ref a :: rest) := by
  subst hp; subst hc; subst ho
  obtain ⟨fs, hcell, hfs⟩ := gtF_of hv
  refine ⟨kk.1, fun h0 p e s m below meth c H locs ls C0 w S L => ?_⟩
  obtain ⟨hx, hb, hml, hr, hown, hlk, hnm, het, hst, hbz, hzz, E⟩ := id C0
  obtain ⟨hcl, hin, hty, hdn⟩ := K
  obtain ⟨cell, r, h1, q1, q2, q3, -, -, -, -, q4⟩ := w.2.2 a _ hcell
  have hr : r = (C, T, N) := Option.some.inj (h1.symm.trans hcl)
  subst hr
  obtain ⟨hS, hfc, kC, hkC, hkind⟩ := E.kK.1 ci _ hcl
  obtain ⟨cf, kf, fi, f, hi, hsl⟩ := hS k hk
  have hts : ∀ w ∈ lw_all, w.before (gV g).toArray s = true := fun w hw => E.word hw
  have hsame : s.fieldFound? ref (T k).2.1 (T k).2.2.1 = some (cf, kf, fi, f) := by
    rcases hs with hs | hs
    · rw [← hs]; exact hi
    · exact u_same (hts _ hs) _ hi
  refine W.getf hx hb hown (hts _ q) hsame (u_facts hfc hkC (u_lays hts hin hk) hi).1 q1 q3 (v := v) ?_ rfl rfl d (kk.2 h0 p e s m below meth c H locs ls C0 w S L)
  rw [hsl, q4 k hk]
  simp [vp_V, hfs]
theorem v_gfI (hc : gC g = cc) (ho : gO g = own) (K : ClsOk ci C T N ty) (k : Nat) (hk : k < N) (q : Cond.fieldLink own index ref (T k).2.1 (T k).2.2.1 ∈ lw_all) (hs : (T k).1 = ref ∨ Cond.sameField ref (T k).1 (T k).2.1 (T k).2.2.1 ∈ lw_all) (d : decode cc pc = .ok (.getfield index, 3)) (hp : pc + 3 = pc') {X : Int32 → Option β} (hf : bd (gtI h ci a k) X = some o) (kk : ∀ x, gtI h ci a k = some x → X x = some o → V g h pc' lv (.int x :: rest)) : V g h pc lv (.ref a :: rest) := by
  obtain ⟨x, e, hf⟩ := bd_of hf
  exact v_gf hc ho K k hk q hs d hp (gtI_F e) (kk x e hf)
theorem v_gfR (hc : gC g = cc) (ho : gO g = own) (K : ClsOk ci C T N ty) (k : Nat) (hk : k < N) (q : Cond.fieldLink own index ref (T k).2.1 (T k).2.2.1 ∈ lw_all) (hs : (T k).1 = ref ∨ Cond.sameField ref (T k).1 (T k).2.1 (T k).2.2.1 ∈ lw_all) (d : decode cc pc = .ok (.getfield index, 3)) (hp : pc + 3 = pc') {X : Nat → Option β} (hf : bd (gtR h ci a k) X = some o) (kk : ∀ x, gtR h ci a k = some x → X x = some o → V g h pc' lv (.ref x :: rest)) : V g h pc lv (.ref a :: rest) := by
  obtain ⟨x, e, hf⟩ := bd_of hf
  exact v_gf hc ho K k hk q hs d hp (gtR_F e) (kk x e hf)
theorem v_gfO (hc : gC g = cc) (ho : gO g = own) (K : ClsOk ci C T N ty) (k : Nat) (hk : k < N) (q : Cond.fieldLink own index ref (T k).2.1 (T k).2.2.1 ∈ lw_all) (hs : (T k).1 = ref ∨ Cond.sameField ref (T k).1 (T k).2.1 (T k).2.2.1 ∈ lw_all) (d : decode cc pc = .ok (.getfield index, 3)) (hp : pc + 3 = pc') {X : Option β} {Y : Nat → Option β} (hf : bd (gtO h ci a k) (fun r => optR r X Y) = some o) (kn : gtO h ci a k = some none → X = some o → V g h pc' lv (.null :: rest)) (kk : ∀ x, gtO h ci a k = some (some x) → Y x = some o → V g h pc' lv (.ref x :: rest)) : V g h pc lv (.ref a :: rest) := by
  obtain ⟨r, e, hf⟩ := bd_of hf
  rcases optR_of hf with ⟨rfl, hf⟩ | ⟨x, rfl, hf⟩
  · exact v_gf hc ho K k hk q hs d hp (gtO_F e) (kn e hf)
  · exact v_gf hc ho K k hk q hs d hp (gtO_F e) (kk x e hf)
/-- getfield of a nest mate's field -/
theorem v_gn {host : String} (hc : gC g = cc) (ho : gO g = own) (K : ClsOk ci C T N ty) (k : Nat) (hk : k < N) (q : Cond.fieldLinkNest own index ref (T k).2.1 (T k).2.2.1 host ∈ lw_tbl) (hs : (T k).1 = ref) (d : decode cc pc = .ok (.getfield index, 3)) (hp : pc + 3 = pc') {v : Value} (hv : gtF h ci a k = some v) (kk : V g h pc' lv (v :: rest)) : V g h pc lv (.ref a :: rest) := by
  subst hp; subst hc; subst ho
  obtain ⟨fs, hcell, hfs⟩ := gtF_of hv
  refine ⟨kk.1, fun h0 p e s m below meth c H locs ls C0 w S L => ?_⟩
  obtain ⟨hx, hb, hml, hr, hown, hlk, hnm, het, hst, hbz, hzz, E⟩ := id C0
  obtain ⟨hcl, hin, hty, hdn⟩ := K
  obtain ⟨cell, r, h1, q1, q2, q3, -, -, -, -, q4⟩ := w.2.2 a _ hcell
  have hr : r = (C, T, N) := Option.some.inj (h1.symm.trans hcl)
  subst hr
  obtain ⟨hS, hfc, kC, hkC, hkind⟩ := E.kK.1 ci _ hcl
  obtain ⟨cf, kf, fi, f, hi, hsl⟩ := hS k hk
  have hts : ∀ w ∈ lw_all, w.before (gV g).toArray s = true := fun w hw => E.word hw
  refine va_Wgetf hx hb hown ((E.nw q rfl).use rfl) (by rw [← hs]; exact hi) (u_facts hfc hkC (u_lays hts hin hk) hi).1 q1 q3 (v := v) ?_ rfl rfl d (kk.2 h0 p e s m below meth c H locs ls C0 w S L)
  rw [hsl, q4 k hk]
  simp [vp_V, hfs]
theorem v_gnI {host : String} (hc : gC g = cc) (ho : gO g = own) (K : ClsOk ci C T N ty) (k : Nat) (hk : k < N) (q : Cond.fieldLinkNest own index ref (T k).2.1 (T k).2.2.1 host ∈ lw_tbl) (hs : (T k).1 = ref) (d : decode cc pc = .ok (.getfield index, 3)) (hp : pc + 3 = pc') {X : Int32 → Option β} (hf : bd (gtI h ci a k) X = some o) (kk : ∀ x, gtI h ci a k = some x → X x = some o → V g h pc' lv (.int x :: rest)) : V g h pc lv (.ref a :: rest) := by
  obtain ⟨x, e, hf⟩ := bd_of hf
  exact v_gn hc ho K k hk q hs d hp (gtI_F e) (kk x e hf)
theorem v_gnR {host : String} (hc : gC g = cc) (ho : gO g = own) (K : ClsOk ci C T N ty) (k : Nat) (hk : k < N) (q : Cond.fieldLinkNest own index ref (T k).2.1 (T k).2.2.1 host ∈ lw_tbl) (hs : (T k).1 = ref) (d : decode cc pc = .ok (.getfield index, 3)) (hp : pc + 3 = pc') {X : Nat → Option β} (hf : bd (gtR h ci a k) X = some o) (kk : ∀ x, gtR h ci a k = some x → X x = some o → V g h pc' lv (.ref x :: rest)) : V g h pc lv (.ref a :: rest) := by
  obtain ⟨x, e, hf⟩ := bd_of hf
  exact v_gn hc ho K k hk q hs d hp (gtR_F e) (kk x e hf)
theorem Cx.A {p : Program} {s : State} {m : MethodId} {meth : Method} {c : Code} (C0 : Cx g p s m meth c) : ∀ q, s.heap.size ≤ q → gA g q := fun q hq => Nat.le_trans C0.2.2.2.2.2.2.2.2.2.1 hq
theorem cs_up {h0 : AH} (e : AE) : aZ (aUp h a e) - aZ h0 = aZ h - aZ h0 := rfl
/-- putfield of a field that isn't final -/
theorem v_pf (hc : gC g = cc) (ho : gO g = own) (K : ClsOk ci C T N ty) (k : Nat) (hk : k < N) (q : Cond.fieldLink own index ref (T k).2.1 (T k).2.2.1 ∈ lw_all) (hs : (T k).1 = ref ∨ Cond.sameField ref (T k).1 (T k).2.1 (T k).2.2.1 ∈ lw_all) (hfin : (T k).2.2.2 = false) (d : decode cc pc = .ok (.putfield index, 3)) (hp : pc + 3 = pc') {v : Value} (hn : narrow (ty k) v = v) (hfit : fits (ty k) v = true) {X : AH → Option β} (hf : bd (stF h ci a k v) X = some o) (kk : ∀ h1, stF h ci a k v = some h1 → X h1 = some o → V g h1 pc' lv rest) : V g h pc lv (v :: .ref a :: rest) := by
  subst hp; subst hc; subst ho
  obtain ⟨h1, e1, hf⟩ := bd_of hf
  have kk := kk h1 e1 hf
  obtain ⟨fs, hcell, hba, hkl, rfl⟩ := stF_of e1
  refine ⟨(aLe.up h a _).tr kk.1, fun h0 p e s m below meth c H locs ls C0 w S L => ?_⟩
  obtain ⟨hx, hb, hml, hr, hown, hlk, hnm, het, hst, hbz, hzz, E⟩ := id C0
  obtain ⟨hcl, hin, hty, hdn⟩ := K
  obtain ⟨cell, r, h1, q1, q2, q3, q5, q6, q7, q8, q4⟩ := w.2.2 a _ hcell
  have hr : r = (C, T, N) := Option.some.inj (h1.symm.trans hcl)
  subst hr
  obtain ⟨hS, hfc, kC, hkC, hkind⟩ := E.kK.1 ci _ hcl
  obtain ⟨cf, kf, fi, f, hi, hsl⟩ := hS k hk
  have hts : ∀ w ∈ lw_all, w.before (gV g).toArray s = true := fun w hw => E.word hw
  have hsame : s.fieldFound? ref (T k).2.1 (T k).2.2.1 = some (cf, kf, fi, f) := by
    rcases hs with hs | hs
    · rw [← hs]; exact hi
    · exact u_same (hts _ hs) _ hi
  have hap := va_apart (own := gO g) hts hin ty hty hdn E.kK hcl
  have hlay := hts _ (hin _ (u_in_lay hk))
  unfold u_lay at hlay
  rw [if_neg (by rw [hfin]; decide)] at hlay
  have h6 := u_store hfc hkC hkind hlay hi (hty k hk) hn hfit
  have hvm := q6 (by show aB h ≤ a; exact hba)
  refine W.putK hx hb (f := f) ⟨hown, hts _ q, ⟨_, _, _, hsame⟩, (u_facts hfc hkC (u_lays hts hin hk) hi).1⟩ (by rw [q2]; exact h6) q1 hvm (by rw [hsl]; exact k2_hasslot (q4 k hk)) rfl rfl d fun H' e1 e2 e3 => ?_
  rw [hsl] at e1 ⊢
  refine kk.2 (h0.tr (aLe.up h a _)) p e s m below meth c H' _ ls C0 (w.put q1 e1 rfl rfl e2 e3 ?_) (S.put e2 e3 (by show aB (g0 g) ≤ a; rw [h0.2.2.1]; exact hba)) L
  exact ⟨_, _, hcl, e1, q2, q3, q5, q6, q7, by rw [List.length_set]; exact q8, fun j hj => (t_set q4 hap hk v j hj).trans (congrArg some (vp_updV_set hkl v j))⟩
/-- putfield of a final field, in its class's constructor -/
theorem v_pfF (hc : gC g = cc) (ho : gO g = own) (hi0 : (gY g).name = "<init>") (K : ClsOk ci C T N ty) (k : Nat) (hk : k < N) (q : Cond.fieldLink own index ref (T k).2.1 (T k).2.2.1 ∈ lw_all) (hs : (T k).1 = ref) (hfin : (T k).2.2.2 = true) (hdecl : (T k).1 = own) (d : decode cc pc = .ok (.putfield index, 3)) (hp : pc + 3 = pc') {v : Value} (hn : narrow (ty k) v = v) (hfit : fits (ty k) v = true) {X : AH → Option β} (hf : bd (stF h ci a k v) X = some o) (kk : ∀ h1, stF h ci a k v = some h1 → X h1 = some o → V g h1 pc' lv rest) : V g h pc lv (v :: .ref a :: rest) := by
  subst hp; subst hc; subst ho
  obtain ⟨h1, e1, hf⟩ := bd_of hf
  have kk := kk h1 e1 hf
  obtain ⟨fs, hcell, hba, hkl, rfl⟩ := stF_of e1
  refine ⟨(aLe.up h a _).tr kk.1, fun h0 p e s m below meth c H locs ls C0 w S L => ?_⟩
  obtain ⟨hx, hb, hml, hr, hown, hlk, hnm, het, hst, hbz, hzz, E⟩ := id C0
  obtain ⟨hcl, hin, hty, hdn⟩ := K
  obtain ⟨cell, r, h1, q1, q2, q3, q5, q6, q7, q8, q4⟩ := w.2.2 a _ hcell
  have hr : r = (C, T, N) := Option.some.inj (h1.symm.trans hcl)
  subst hr
  obtain ⟨hS, hfc, kC, hkC, hkind⟩ := E.kK.1 ci _ hcl
  obtain ⟨cf, kf, fi, f, hi, hsl⟩ := hS k hk
  have hts : ∀ w ∈ lw_all, w.before (gV g).toArray s = true := fun w hw => E.word hw
  have hap := va_apart (own := gO g) hts hin ty hty hdn E.kK hcl
  have hlay := hts _ (hin _ (u_in_lay hk))
  unfold u_lay at hlay
  rw [if_pos hfin] at hlay
  have hcf : m.cls = cf := by
    obtain ⟨_, _, c', _, _, _, -, -, hf', -, -, -, hown2, -⟩ := Cond.laysFinal_spec hlay
    have e1 : c' = cf := by have := hi.symm.trans hf'; simp at this; exact this.1.symm
    rw [hdecl] at hown2
    rw [← e1]; exact Option.some.inj (hown.symm.trans hown2)
  have h6 := u_fits hfc hkC hkind (Or.inr hlay) hi (hty k hk) hn hfit
  have hvm := q6 (by show aB h ≤ a; exact hba)
  refine W.putFinK hx hb hown (hts _ q) (by rw [← hs]; exact hi) (u_facts hfc hkC (u_lays hts hin hk) hi).1 hcf (hnm.trans hi0) (by rw [q2]; exact h6) q1 hvm (by rw [hsl]; exact k2_hasslot (q4 k hk)) rfl rfl d fun H' e1 e2 e3 => ?_
  rw [hsl] at e1 ⊢
  refine kk.2 (h0.tr (aLe.up h a _)) p e s m below meth c H' _ ls C0 (w.put q1 e1 rfl rfl e2 e3 ?_) (S.put e2 e3 (by show aB (g0 g) ≤ a; rw [h0.2.2.1]; exact hba)) L
  exact ⟨_, _, hcl, e1, q2, q3, q5, q6, q7, by rw [List.length_set]; exact q8, fun j hj => (t_set q4 hap hk v j hj).trans (congrArg some (vp_updV_set hkl v j))⟩
end VG
