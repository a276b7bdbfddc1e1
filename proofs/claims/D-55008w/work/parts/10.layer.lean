/-! THE V LAYER: an abstract heap, what it says of the machine's heap, and a judgement over it -/
set_option maxRecDepth 100000
set_option maxHeartbeats 1000000
/-- a cell: an array (its kind; length and contents) or an object (its class's place in vwCl; its fields) -/
abbrev AE : Type := (Nat × vp_A) ⊕ (Nat × List Value)
/-- cells, size, slots used, where the run's own cells begin, addresses of statics and String constants -/
abbrev AH : Type := (Nat → Option AE) × Nat × Nat × Nat × (Nat → Option Nat)
def aC (h : AH) : Nat → Option AE := h.1
def aZ (h : AH) : Nat := h.2.1
def aS (h : AH) : Nat := h.2.2.1
def aB (h : AH) : Nat := h.2.2.2.1
def aE (h : AH) : Nat → Option Nat := h.2.2.2.2
def aUp (h : AH) (a : Nat) (e : AE) : AH := (fun q => if q = a then some e else h.1 q, h.2)
def aNew (h : AH) (n : Nat) (e : AE) : AH := (fun q => if q = h.2.1 then some e else h.1 q, h.2.1 + 1, h.2.2.1 + n, h.2.2.2)
theorem aC_up (h : AH) (a : Nat) (e : AE) (q : Nat) : aC (aUp h a e) q = if q = a then some e else aC h q := rfl
theorem aZ_up (h : AH) (a : Nat) (e : AE) : aZ (aUp h a e) = aZ h := rfl
theorem aS_up (h : AH) (a : Nat) (e : AE) : aS (aUp h a e) = aS h := rfl
theorem aB_up (h : AH) (a : Nat) (e : AE) : aB (aUp h a e) = aB h := rfl
theorem aE_up (h : AH) (a : Nat) (e : AE) : aE (aUp h a e) = aE h := rfl
theorem aC_new (h : AH) (n : Nat) (e : AE) (q : Nat) : aC (aNew h n e) q = if q = aZ h then some e else aC h q := rfl
theorem aZ_new (h : AH) (n : Nat) (e : AE) : aZ (aNew h n e) = aZ h + 1 := rfl
theorem aS_new (h : AH) (n : Nat) (e : AE) : aS (aNew h n e) = aS h + n := rfl
theorem aB_new (h : AH) (n : Nat) (e : AE) : aB (aNew h n e) = aB h := rfl
theorem aE_new (h : AH) (n : Nat) (e : AE) : aE (aNew h n e) = aE h := rfl
def aLe (h k : AH) : Prop := aZ h ≤ aZ k ∧ aS h ≤ aS k ∧ aB h = aB k ∧ aE h = aE k
theorem aLe.rf (h : AH) : aLe h h := ⟨Nat.le_refl _, Nat.le_refl _, rfl, rfl⟩
theorem aLe.tr {h k m : AH} (a : aLe h k) (b : aLe k m) : aLe h m := ⟨Nat.le_trans a.1 b.1, Nat.le_trans a.2.1 b.2.1, a.2.2.1.trans b.2.2.1, a.2.2.2.trans b.2.2.2⟩
theorem aLe.up (h : AH) (a : Nat) (e : AE) : aLe h (aUp h a e) := ⟨Nat.le_refl _, Nat.le_refl _, rfl, rfl⟩
theorem aLe.nw (h : AH) (n : Nat) (e : AE) : aLe h (aNew h n e) := ⟨Nat.le_succ _, Nat.le_add_right _ _, rfl, rfl⟩
/-! what may fail, as Options -/
def bd {α β : Type} (x : Option α) (K : α → Option β) : Option β := match x with | none => none | some a => K a
def bd2 {α β : Type} (x : Option (α × AH)) (K : α → AH → Option β) : Option β := match x with | none => none | some p => K p.1 p.2
/-- a call that may throw: KX: what comes then -/
def bdX {α β : Type} (x : Option ((α ⊕ Nat) × AH)) (KX : Nat → AH → Option β) (K : α → AH → Option β) : Option β := match x with | none => none | some (.inl a, h) => K a h | some (.inr q, h) => KX q h
def optR {β : Type} (r : Option Nat) (A : Option β) (B : Nat → Option β) : Option β := match r with | none => A | some a => B a
theorem bd_some {α β : Type} (a : α) (K : α → Option β) : bd (some a) K = K a := rfl
theorem bd_none {α β : Type} (K : α → Option β) : bd none K = none := rfl
theorem bd2_some {α β : Type} (a : α) (h : AH) (K : α → AH → Option β) : bd2 (some (a, h)) K = K a h := rfl
theorem bdX_l {α β : Type} (a : α) (h : AH) (KX : Nat → AH → Option β) (K : α → AH → Option β) : bdX (some (.inl a, h)) KX K = K a h := rfl
theorem bdX_r {α β : Type} (q : Nat) (h : AH) (KX : Nat → AH → Option β) (K : α → AH → Option β) : bdX (some (.inr q, h)) KX K = KX q h := rfl
theorem optR_s {β : Type} (a : Nat) (A : Option β) (B : Nat → Option β) : optR (some a) A B = B a := rfl
theorem optR_n {β : Type} (A : Option β) (B : Nat → Option β) : optR none A B = A := rfl
theorem bd_of {α β : Type} {x : Option α} {K : α → Option β} {o : β} (h : bd x K = some o) : ∃ a, x = some a ∧ K a = some o := by
  cases x with
  | none => exact absurd h (by simp [bd])
  | some a => exact ⟨a, rfl, h⟩
theorem bd2_of {α β : Type} {x : Option (α × AH)} {K : α → AH → Option β} {o : β} (h : bd2 x K = some o) : ∃ a k, x = some (a, k) ∧ K a k = some o := by
  cases x with
  | none => exact absurd h (by simp [bd2])
  | some a => exact ⟨a.1, a.2, rfl, h⟩
theorem bdX_of {α β : Type} {x : Option ((α ⊕ Nat) × AH)} {KX : Nat → AH → Option β} {K : α → AH → Option β} {o : β} (h : bdX x KX K = some o) : (∃ a k, x = some (.inl a, k) ∧ K a k = some o) ∨ (∃ q k, x = some (.inr q, k) ∧ KX q k = some o) := by
  match x, h with
  | none, h => exact absurd h (by simp [bdX])
  | some (.inl a, k), h => exact Or.inl ⟨a, k, rfl, h⟩
  | some (.inr q, k), h => exact Or.inr ⟨q, k, rfl, h⟩
theorem optR_of {β : Type} {r : Option Nat} {A : Option β} {B : Nat → Option β} {o : β} (h : optR r A B = some o) : (r = none ∧ A = some o) ∨ (∃ a, r = some a ∧ B a = some o) := by
  cases r with
  | none => exact Or.inl ⟨rfl, h⟩
  | some a => exact Or.inr ⟨a, rfl, h⟩
/-! reads and writes of the abstract heap -/
def gtF (h : AH) (ci a k : Nat) : Option Value := match h.1 a with
  | some (.inr o) => if o.1 = ci then o.2[k]? else none
  | _ => none
def vI (v : Option Value) : Option Int32 := match v with | some (.int x) => some x | _ => none
def vRf (v : Option Value) : Option Nat := match v with | some (.ref x) => some x | _ => none
def vO (v : Option Value) : Option (Option Nat) := match v with | some .null => some none | some (.ref x) => some (some x) | _ => none
def gtI (h : AH) (ci a k : Nat) : Option Int32 := vI (gtF h ci a k)
def gtR (h : AH) (ci a k : Nat) : Option Nat := vRf (gtF h ci a k)
def gtO (h : AH) (ci a k : Nat) : Option (Option Nat) := vO (gtF h ci a k)
def stF (h : AH) (ci a k : Nat) (v : Value) : Option AH := match h.1 a with
  | some (.inr o) => if o.1 = ci ∧ h.2.2.2.1 ≤ a ∧ k < o.2.length then some (aUp h a (.inr (ci, o.2.set k v))) else none
  | _ => none
def isC (h : AH) (ci a : Nat) : Bool := match h.1 a with
  | some (.inr o) => o.1 == ci
  | _ => false
/-- an index in range -/
def ixIn (i : Int32) (n : Nat) : Bool := decide (0 ≤ i) && decide (i.toNatClampNeg < n)
def arr (h : AH) (k a : Nat) : Option vp_A := match h.1 a with
  | some (.inl x) => if x.1 = k then some x.2 else none
  | _ => none
def ldI (h : AH) (k a : Nat) (i : Int32) : Option Int32 := match arr h k a with
  | some (n, .inl f) => if ixIn i n = true then some (f i.toNatClampNeg) else none
  | _ => none
def ldL (h : AH) (a : Nat) (i : Int32) : Option Int64 := match arr h 1 a with
  | some (n, .inr (.inl f)) => if ixIn i n = true then some (f i.toNatClampNeg) else none
  | _ => none
def ldD (h : AH) (a : Nat) (i : Int32) : Option UInt64 := match arr h 2 a with
  | some (n, .inr (.inr (.inr (.inl f)))) => if ixIn i n = true then some (f i.toNatClampNeg) else none
  | _ => none
def ldQ (h : AH) (a : Nat) (i : Int32) : Option (Option Nat) := match arr h 4 a with
  | some (n, .inr (.inr (.inr (.inr f)))) => if ixIn i n = true then some (f i.toNatClampNeg) else none
  | _ => none
def ldN (h : AH) (a : Nat) (i : Int32) : Option Nat := match ldQ h a i with | some (some q) => some q | _ => none
def stI (h : AH) (a : Nat) (i x : Int32) : Option AH := match arr h 0 a with
  | some (n, .inl f) => if ixIn i n = true ∧ h.2.2.2.1 ≤ a then some (aUp h a (.inl (0, n, .inl (upd f i.toNatClampNeg x)))) else none
  | _ => none
def stB (h : AH) (a : Nat) (i x : Int32) : Option AH := match arr h 3 a with
  | some (n, .inl f) => if ixIn i n = true ∧ h.2.2.2.1 ≤ a then some (aUp h a (.inl (3, n, .inl (upd f i.toNatClampNeg x.toInt8.toInt32)))) else none
  | _ => none
def stL (h : AH) (a : Nat) (i : Int32) (x : Int64) : Option AH := match arr h 1 a with
  | some (n, .inr (.inl f)) => if ixIn i n = true ∧ h.2.2.2.1 ≤ a then some (aUp h a (.inl (1, n, .inr (.inl (vp_updL f i.toNatClampNeg x))))) else none
  | _ => none
def stD (h : AH) (a : Nat) (i : Int32) (x : UInt64) : Option AH := match arr h 2 a with
  | some (n, .inr (.inr (.inr (.inl f)))) => if ixIn i n = true ∧ h.2.2.2.1 ≤ a then some (aUp h a (.inl (2, n, .inr (.inr (.inr (.inl (vf_upd f i.toNatClampNeg x))))))) else none
  | _ => none
def isO (h : AH) (a : Nat) : Bool := match h.1 a with
  | some (.inr _) => true
  | _ => false
def okQ (h : AH) (v : Option Nat) : Bool := match v with | none => true | some y => isO h y
/-- a reference (or null) into an Object[]: the object is known -/
def stQ (h : AH) (a : Nat) (i : Int32) (v : Option Nat) : Option AH := match arr h 4 a with
  | some (n, .inr (.inr (.inr (.inr f)))) => if ixIn i n = true ∧ h.2.2.2.1 ≤ a ∧ okQ h v = true then some (aUp h a (.inl (4, n, .inr (.inr (.inr (.inr (va_up f i.toNatClampNeg v))))))) else none
  | _ => none
def aLn (h : AH) (a : Nat) : Option Int32 := match h.1 a with
  | some (.inl x) => some (Int32.ofNat x.2.1)
  | _ => none
/-- new arrays: of numbers (kind 0, 1, 2, 3), of references (kind 4) -/
def zer (k : Nat) : ((Nat → Int32) ⊕ (Nat → Int64) ⊕ (Nat → UInt32) ⊕ (Nat → UInt64) ⊕ (Nat → Option Nat)) := match k with
  | 0 => .inl (fun _ => 0)
  | 1 => .inr (.inl (fun _ => 0))
  | 2 => .inr (.inr (.inr (.inl (fun _ => 0))))
  | 3 => .inl (fun _ => 0)
  | _ => .inr (.inr (.inr (.inr (fun _ => none))))
def nwA (h : AH) (k : Nat) (n : Int32) : Option (Nat × AH) := if 0 ≤ n ∧ n.toNatClampNeg ≤ 65536 then some (aZ h, aNew h n.toNatClampNeg (.inl (k, n.toNatClampNeg, zer k))) else none
/-- System.arraycopy over arrays of bytes or ints (kind k), of references -/
def cpI (h : AH) (k a : Nat) (sp : Int32) (b : Nat) (dp n : Int32) : Option AH := match arr h k a, arr h k b with
  | some (na, .inl f), some (nb, .inl g) => if 0 ≤ sp ∧ 0 ≤ dp ∧ 0 ≤ n ∧ sp.toNatClampNeg + n.toNatClampNeg ≤ na ∧ dp.toNatClampNeg + n.toNatClampNeg ≤ nb ∧ h.2.2.2.1 ≤ b then some (aUp h b (.inl (k, nb, .inl (va_cpy f g sp.toNatClampNeg dp.toNatClampNeg n.toNatClampNeg)))) else none
  | _, _ => none
def cpQ (h : AH) (a : Nat) (sp : Int32) (b : Nat) (dp n : Int32) : Option AH := match arr h 4 a, arr h 4 b with
  | some (na, .inr (.inr (.inr (.inr f)))), some (nb, .inr (.inr (.inr (.inr g)))) => if 0 ≤ sp ∧ 0 ≤ dp ∧ 0 ≤ n ∧ sp.toNatClampNeg + n.toNatClampNeg ≤ na ∧ dp.toNatClampNeg + n.toNatClampNeg ≤ nb ∧ h.2.2.2.1 ≤ b then some (aUp h b (.inl (4, nb, .inr (.inr (.inr (.inr (va_cpy f g sp.toNatClampNeg dp.toNatClampNeg n.toNatClampNeg))))))) else none
  | _, _ => none
/-- new object of class ci: N slots, its fields' first values -/
def nwO (h : AH) (ci N : Nat) (fs : List Value) : Nat × AH := (aZ h, aNew h N (.inr (ci, fs)))
/-! the classes -/
abbrev vwCl : List vw_C := [(RX1, TX1, 7), (RX2, TX2, 4), (RX3, TX3, 24), (RX4, TX4, 4), (RX5, TX5, 5), (RX6, TX6, 1), (RX7, TX7, 8), (RX8, TX8, 3), (RX9, TX9, 3), (RX10, TX10, 7), (RX12, TX12, 4), (RX13, TX13, 5), (RX14, TX14, 1), (RX15, TX15, 3), (RX16, TX16, 2), (RX17, TX17, 7), (RJ2, TJ2, 3), (RJ3, TJ3, 3), (RJ5, TJ5, 4), (RJ6, TJ6, 4), (RJ19, TJ19, 4), (RJ12, TJ12, 0), (RJ21, TJ21, 0), (RJ23, TJ23, 0), (RJ20, TJ20, 0), (RJ25, TJ25, 0), (RJ24, TJ24, 0)]
def tyA (k : Nat) : FieldType := match k with | 0 => .int | 1 => .long | 2 => .double | 3 => .byte | _ => .object "java/lang/Object"
def nmA (k : Nat) : String := match k with | 0 => "[I" | 1 => "[J" | 2 => "[D" | 3 => "[B" | _ => "[Ljava/lang/Object;"
def elV (c : (Nat → Int32) ⊕ (Nat → Int64) ⊕ (Nat → UInt32) ⊕ (Nat → UInt64) ⊕ (Nat → Option Nat)) (j : Nat) : Value := match c with
  | .inl f => .int (f j)
  | .inr (.inl f) => .long (f j)
  | .inr (.inr (.inl f)) => .float (f j)
  | .inr (.inr (.inr (.inl f))) => .double (f j)
  | .inr (.inr (.inr (.inr f))) => va_rf (f j)
/-- what a cell of the abstract heap says -/
def atE (D : va_G) (B : Nat) (s : State) (H : Heap) (a : Nat) (e : AE) : Prop := match e with
  | .inl x => ∃ cell : Cell, H[a]? = some cell ∧ (x.1 ≠ 0 → s.vm.findClass (nmA x.1) = some cell.cls) ∧ s.isArrayOf cell (tyA x.1) ∧ cell.vm ≠ .unknown ∧ cell.vm.isStatics = false ∧ (x.2.1 ≤ cell.slots.size ∧ cell.slots.size.toInt32 = Int32.ofNat x.2.1) ∧ (∀ j, j < x.2.1 → cell.slots[j]? = some (elV x.2.2 j)) ∧ (∀ j, j < x.2.1 → fits (tyA x.1) (elV x.2.2 j) = true ∧ ∀ y, elV x.2.2 j = .ref y → va_Any "java/lang/Object" s H y)
  | .inr o => ∃ (cell : Cell) (r : vw_C), vwCl[o.1]? = some r ∧ H[a]? = some cell ∧ cell.cls = D.1 o.1 ∧ cell.vm ≠ .unknown ∧ cell.vm.isStatics = false ∧ (B ≤ a → cell.vm = .none) ∧ (o.1 = 6 → cell.monitor.owner = none ∧ cell.monitor.count = 0) ∧ o.2.length = r.2.2 ∧ ∀ k, k < r.2.2 → cell.slots[D.2 o.1 k]? = some (vp_V o.2 k)
def Wc (D : va_G) (h : AH) (s : State) (H : Heap) : Prop := H.size = aZ h ∧ aB h ≤ aZ h ∧ ∀ a e, aC h a = some e → atE D (aB h) s H a e
