/-! what the printed walks use besides -/
set_option maxRecDepth 100000
set_option maxHeartbeats 1000000
/-- the fuel of every loop -/
def NN : Nat := 10000
def nwX (h : AH) (ci N : Nat) (fs : List Value) : Option (Nat × AH) := some (aZ h, aNew h N (.inr (ci, fs)))
def isX (h : AH) (ci q : Nat) : Bool := isC h ci q && decide (aB h ≤ q)
theorem isX_c {h : AH} {ci q : Nat} (e : isX h ci q = true) : isC h ci q = true := by
  simp only [isX, Bool.and_eq_true, decide_eq_true_eq] at e; exact e.1
theorem isX_b {h : AH} {ci q : Nat} (e : isX h ci q = true) : aB h ≤ q := by
  simp only [isX, Bool.and_eq_true, decide_eq_true_eq] at e; exact e.2
def isAr (h : AH) (k a : Nat) : Bool := match h.1 a with
  | some (.inl x) => x.1 == k
  | _ => false
theorem isAr_of {h : AH} {k a : Nat} (e : isAr h k a = true) : ∃ n c, aC h a = some (.inl (k, n, c)) := by
  unfold isAr at e
  split at e
  · rename_i x hx
    obtain ⟨kk, n, c⟩ := x
    cases (eq_of_beq e : kk = k)
    exact ⟨n, c, hx⟩
  · cases e
theorem nrw_rf {n : String} (o : Option Nat) : narrow (.object n) (va_rf o) = va_rf o := by cases o <;> rfl
theorem nrw_rfa {t : FieldType} (o : Option Nat) : narrow (.array t) (va_rf o) = va_rf o := by cases o <;> rfl
theorem fit_rf {n : String} (o : Option Nat) : fits (.object n) (va_rf o) = true := by cases o <;> rfl
theorem fit_rfa {t : FieldType} (o : Option Nat) : fits (.array t) (va_rf o) = true := by cases o <;> rfl
/-! switches -/
theorem lk_n {x c : Int32} {a : Int} (z : ¬ x = c) (hc : c.toInt = a) : ¬ a = x.toInt := by
  intro h; exact z (Int32.toInt_inj.mp (by rw [hc, h]))
theorem lk_c {a o k d : Int} {r : List (Int × Int)} (h : ¬ a = k) (t : Op.lookupswitch.offset r d k = d) : Op.lookupswitch.offset ((a, o) :: r) d k = d := by
  rw [Op.lookupswitch.offset_cons, if_neg h]; exact t
theorem lk_d {a k d : Int} {r : List (Int × Int)} (t : Op.lookupswitch.offset r d k = d) : Op.lookupswitch.offset ((a, d) :: r) d k = d := by
  rw [Op.lookupswitch.offset_cons]; split
  · rfl
  · exact t
theorem lk_z {k d : Int} : Op.lookupswitch.offset [] d k = d := rfl
def tbP : Int → List Int → List (Int × Int)
  | _, [] => []
  | a, o :: r => (a, o) :: tbP (a + 1) r
theorem tbP_off (d k : Int) : ∀ (l : List Int) (lo : Int), Op.lookupswitch.offset (tbP lo l) d k = if lo ≤ k ∧ k < lo + l.length then (l[(k - lo).toNat]?).getD d else d := by
  intro l
  induction l with
  | nil => intro lo; simp only [tbP, Op.lookupswitch.offset_nil, List.length_nil]; split <;> simp
  | cons o r ih =>
    intro lo
    rw [tbP, Op.lookupswitch.offset_cons, ih]
    by_cases h : lo = k
    · subst h
      rw [if_pos rfl, if_pos ⟨Int.le_refl _, by simp only [List.length_cons]; omega⟩, Int.sub_self]; rfl
    · rw [if_neg h]
      by_cases h2 : lo + 1 ≤ k ∧ k < lo + 1 + r.length
      · rw [if_pos h2, if_pos ⟨by omega, by simp only [List.length_cons]; omega⟩]
        have : (k - lo).toNat = (k - (lo + 1)).toNat + 1 := by omega
        rw [this, List.getElem?_cons_succ]
      · rw [if_neg h2, if_neg (by simp only [List.length_cons]; omega)]
theorem ret_of {α : Type} {a r : α} {h hF : AH} (e : some (a, h) = some (r, hF)) : a = r ∧ h = hF := ⟨congrArg Prod.fst (Option.some.inj e), congrArg Prod.snd (Option.some.inj e)⟩
section VM2
variable {g : CT} {h h1 : AH} {pc pc' : Nat} {lv : List (Nat × Value)} {rest st0 : List Value} {cc : ByteArray} {own C : String} {index ci N a : Nat} {T : u_T} {β : Type} {o : β}
theorem v_tbl {dflt lo hi : Int} {offs : Array Int} {len : Nat} {x : Int32} {off : Int} {pt : Nat} {ps : List (Int × Int)} (hc : gC g = cc) (d : decode cc pc = .ok (.tableswitch dflt lo hi offs, len)) (hps : tbP lo offs.toList = ps) (hlen : lo + offs.toList.length = hi + 1) (ho : Op.lookupswitch.offset ps dflt x.toInt = off) (ht : (pc : Int) + off = (pt : Int)) (k : V g h pt lv rest) : V g h pc lv (.int x :: rest) := by
  subst hps
  rw [tbP_off] at ho
  by_cases hr : lo ≤ x.toInt ∧ x.toInt < lo + offs.toList.length
  · rw [if_pos hr] at ho
    have hi9 : (x.toInt - lo).toNat < offs.toList.length := by omega
    rw [List.getElem?_eq_getElem hi9] at ho
    refine v_tblI hc d (by omega) (by omega) (off := off) ?_ ht k
    rw [← Array.getElem?_toList, List.getElem?_eq_getElem hi9]
    exact congrArg some ho
  · rw [if_neg hr] at ho
    subst ho
    exact v_tblO hc d (by omega) ht k
theorem kD {v0 : Value} (k : V g h1 pc' lv (v0 :: rest)) : V g h1 pc' lv ((some v0).toList ++ rest) := k
theorem hpN {P : ExceptionTableEntry → Prop} : ∀ z ∈ tableOf [], P z := fun _ h => nomatch h
theorem hpC {P : ExceptionTableEntry → Prop} {x : Nat × Nat × Nat × Nat} {l : List (Nat × Nat × Nat × Nat)} (h : P ⟨x.1, x.2.1, x.2.2.1, x.2.2.2⟩) (t : ∀ z ∈ tableOf l, P z) : ∀ z ∈ tableOf (x :: l), P z := by
  intro z hz
  rcases List.mem_cons.mp (show z ∈ (⟨x.1, x.2.1, x.2.2.1, x.2.2.2⟩ : ExceptionTableEntry) :: tableOf l from hz) with rfl | hz
  · exact h
  · exact t z hz
theorem v_catchH {q : Nat} {nm : String} {pre suf : List (Nat × Nat × Nat × Nat)} {x : Nat × Nat × Nat × Nat} (ho : gO g = own) (hi : isX h ci q = true) (hcl : vwCl[ci]? = some (C, T, N)) (hs : gHd g = pre ++ x :: suf)
    (hx : covers (⟨x.1, x.2.1, x.2.2.1, x.2.2.2⟩ : ExceptionTableEntry) pc = true) (h0 : x.2.2.2 ≠ 0) (hpass : ∀ z ∈ tableOf pre, covers z pc = false ∨ (z.catchType ≠ 0 ∧ ∃ nm : String, Cond.classLink own z.catchType nm ∈ lw_all ∧ (C, nm) ∈ ncL)) (q1 : Cond.classLink own x.2.2.2 nm ∈ lw_all) (q2 : Cond.castable C nm ∈ lw_tbl)
    (kk : V g h x.2.2.1 lv [.ref q]) : VX g h pc lv rest q := by
  obtain ⟨fs, he⟩ := isC_of (isX_c hi)
  exact v_catch ho (isX_b hi) hcl he (tableOf pre) ⟨x.1, x.2.1, x.2.2.1, x.2.2.2⟩ (tableOf suf) (by rw [hs, tableOf, List.map_append]; rfl) hpass hx h0 q1 q2 kk
/-- checkcast of an array to its own class -/
theorem v_castA {nm : String} {k : Nat} (hc : gC g = cc) (ho : gO g = own) (q1 : Cond.classLink own index nm ∈ lw_all) (d : decode cc pc = .ok (.checkcast index, 3)) (hp : pc + 3 = pc') (hi : isAr h k a = true) (hn : nmA k = nm) (hk0 : k ≠ 0) (kk : V g h pc' lv (.ref a :: rest)) : V g h pc lv (.ref a :: rest) := by
  subst hp; subst hc; subst ho; subst hn
  obtain ⟨n, c9, he⟩ := isAr_of hi
  refine ⟨kk.1, fun hz p e s m below meth c H locs ls C0 w S L => ?_⟩
  have E := C0.2.2.2.2.2.2.2.2.2.2.2
  obtain ⟨cell, b1, b2, b3, b4, b5, -⟩ := w.2.2 a _ he
  exact va_castE C0.1 C0.2.1 C0.2.2.2.2.1 (E.word q1) ⟨cell, b1, b5, b2 hk0⟩ d (kk.2 hz p e s m below meth c H locs ls C0 w S L)
theorem v_instA {nm : String} {k : Nat} (hc : gC g = cc) (ho : gO g = own) (q1 : Cond.classLink own index nm ∈ lw_all) (d : decode cc pc = .ok (.instanceof index, 3)) (hp : pc + 3 = pc') (hi : isAr h k a = true) (hn : nmA k = nm) (hk0 : k ≠ 0) (kk : V g h pc' lv (.int 1 :: rest)) : V g h pc lv (.ref a :: rest) := by
  subst hp; subst hc; subst ho; subst hn
  obtain ⟨n, c9, he⟩ := isAr_of hi
  refine ⟨kk.1, fun hz p e s m below meth c H locs ls C0 w S L => ?_⟩
  have E := C0.2.2.2.2.2.2.2.2.2.2.2
  obtain ⟨cell, b1, b2, b3, b4, b5, -⟩ := w.2.2 a _ he
  exact va_instE C0.1 C0.2.1 C0.2.2.2.2.1 (E.word q1) ⟨cell, b1, b5, b2 hk0⟩ d (kk.2 hz p e s m below meth c H locs ls C0 w S L)
theorem v_newX {fs : List Value} {ty : Nat → FieldType} (hc : gC g = cc) (ho : gO g = own) (K : ClsOk ci C T N ty) (q1 : Cond.classLink own index C ∈ lw_all) (q2 : Cond.instantiable C N ∈ lw_all) (q3 : Cond.initialized C ∈ lw_all) (hl : fs.length = N) (hfs : ∀ j, j < N → defaultValue (ty j) = vp_V fs j) (d : decode cc pc = .ok (.new index, 3)) (hp : pc + 3 = pc') {X : Nat → AH → Option β} (hf : bd2 (nwX h ci N fs) X = some o) (kk : ∀ q h1, nwX h ci N fs = some (q, h1) → X q h1 = some o → V g h1 pc' lv (.ref q :: rest)) : V g h pc lv rest :=
  v_new hc ho K q1 q2 q3 hl hfs d hp (kk _ _ rfl hf)
theorem v_makeX {cls : String} {names : List String} {ik ic : Nat} {T0 : u_T} (hc : gC g = cc) (ho : gO g = own) (hl : (gL g).stackTraces = false) (hcls : Bundle.fit cls = true) (hnames : ∀ n ∈ names, Bundle.fit n = true)
    (hk : Cond.classLink own ik cls ∈ lw_all) (hini : Cond.initialized cls ∈ lw_all) (hat : ∀ w ∈ vx_at0 own ic cls names, okw w = true)
    (hcl : vwCl[ci]? = some (cls, T0, 0)) (h6 : ci ≠ 6) (hR : names.length + 3 < gFr g ∧ (rest.map fun v => v.category).sum + (13 * (names.length + 1) + 42) ≤ gLo g)
    (d0 : decode cc pc = .ok (.new ik, 3)) (d3 : decode cc (pc + 3) = .ok (.dup, 1)) (d4 : decode cc (pc + 4) = .ok (.invokespecial ic, 3)) (hp : pc + 7 = pc')
    {X : Nat → AH → Option β} (hf : bd2 (nwX h ci 6 []) X = some o) (kk : ∀ q h1, nwX h ci 6 [] = some (q, h1) → X q h1 = some o → V g h1 pc' lv (.ref q :: rest)) : V g h pc lv rest :=
  v_make0 hc ho hl hcls hnames hk hini hat hcl h6 hR d0 d3 d4 hp (kk _ _ rfl hf)
end VM2
