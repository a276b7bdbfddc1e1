/-! THE JUDGEMENT V -/
set_option maxRecDepth 100000
set_option maxHeartbeats 1000000
/-- words that no list of steady words carries, one by one -/
def nwk (w : Cond) : Bool := match w with
  | .castable _ _ => true
  | .declares _ => true
  | .fieldLinkNest _ _ _ _ _ _ => true
  | .methodLinkNest _ _ _ _ => true
  | _ => false
theorem nwk_warm {w : Cond} (h : nwk w = true) {s U : State} (hW : s.WarmedH U.vm) (hZ : va_Nw w s) : va_Nw w U := by
  cases w <;> first | exact absurd h Bool.false_ne_true | exact va_Nw.warmC hW hZ | exact va_Nw.warmD hW hZ | exact va_Nw.warmF hW hZ | exact va_Nw.warmM hW hZ
def intS : List (String × String × String × Int32) := [("java/lang/String", "COMPACT_STRINGS", "Z", 1), ("java/lang/StringUTF16", "$assertionsDisabled", "Z", 1), ("java/lang/StringUTF16", "HI_BYTE_SHIFT", "I", 0), ("java/lang/StringUTF16", "LO_BYTE_SHIFT", "I", 8)]
/-- statics that hold references: the place in aE -/
def refS : List (String × String × String × Nat) := [("java/util/ArrayList", "DEFAULTCAPACITY_EMPTY_ELEMENTDATA", "[Ljava/lang/Object;", 0), ("java/lang/Integer", "DigitOnes", "[B", 1), ("java/lang/Integer", "DigitTens", "[B", 2), ("java/lang/Throwable", "UNASSIGNED_STACK", "[Ljava/lang/StackTraceElement;", 3), ("java/lang/Throwable", "SUPPRESSED_SENTINEL", "Ljava/util/List;", 4), ("jdk/internal/util/Preconditions", "IOOBE_FORMATTER", "Ljava/util/function/BiFunction;", 6), ("jdk/internal/util/Preconditions", "SIOOBE_FORMATTER", "Ljava/util/function/BiFunction;", 7)]
/-- String constants: class, entry, text, the place in aE -/
def strS : List (String × Nat × String × Nat) := [("BlockPapers", 47, "", 100), ("BlockPapers", 94, "block", 101), ("BlockPapers$Named", 32, "block", 101), ("BlockPapers$Named", 38, "carve", 102), ("BlockPapers$Named", 40, "ink", 103), ("BlockPapers$Named", 42, "mix", 104), ("BlockPapers$Named", 44, "print", 105), ("BlockPapers$Named", 46, "back", 106), ("BlockPapers$Named", 48, "room", 107), ("BlockPapers$Named", 50, "hang", 108), ("BlockPapers$Named", 52, "strip", 109), ("BlockPapers", 148, "carve", 102), ("BlockPapers", 153, "ink", 103), ("BlockPapers", 172, "mix", 104), ("BlockPapers", 174, "print", 105), ("BlockPapers", 198, "back", 106), ("BlockPapers", 200, "room", 107), ("BlockPapers", 245, "hang", 108), ("BlockPapers", 255, "strip", 109), ("BlockPapers", 261, "finish", 110), ("BlockPapers", 274, ": ", 111), ("BlockPapers", 279, " of ", 112), ("BlockPapers", 281, ", shade ", 113), ("BlockPapers$Roll", 35, ", given back", 114), ("BlockPapers$Roll", 37, ", whole", 115), ("BlockPapers$Roll", 39, "", 100), ("BlockPapers$Parser", 50, " print hang strip back finish carve mix ", 116), ("BlockPapers$Parser", 52, " ", 117), ("java/lang/StringLatin1", 151, "", 100), ("java/lang/StringUTF16", 295, "", 100), ("BlockPapers$Parser", 82, "print", 105), ("BlockPapers$Parser", 88, "mix", 104), ("BlockPapers$Parser", 90, "hang", 108), ("BlockPapers$Parser", 92, "back", 106), ("BlockPapersModel", 199, ": ", 111), ("BlockPapersModel", 205, " of ", 112), ("BlockPapersModel", 207, ", shade ", 113), ("BlockPapersModel", 209, ", given back", 114), ("BlockPapersModel", 211, ", whole", 115), ("BlockPapersModel", 213, "", 100), ("BlockPapersModel", 259, "print", 105), ("BlockPapersModel", 265, "hang", 108), ("BlockPapersModel", 267, "strip", 109), ("BlockPapersModel", 269, "back", 106), ("BlockPapersModel", 271, "finish", 110), ("BlockPapersModel", 273, "carve", 102), ("BlockPapersModel", 275, "mix", 104)]
/-- calls through interfaces: the receiver's class, the interface's method, the method that runs -/
def fwL : List (String × MethodName × MethodName) := [
  ("java/util/ArrayList", ⟨"java/util/List", "add", "(Ljava/lang/Object;)Z"⟩, ⟨"java/util/ArrayList", "add", "(Ljava/lang/Object;)Z"⟩),
  ("java/util/ArrayList", ⟨"java/util/List", "addAll", "(Ljava/util/Collection;)Z"⟩, ⟨"java/util/ArrayList", "addAll", "(Ljava/util/Collection;)Z"⟩),
  ("java/util/ArrayList", ⟨"java/util/List", "get", "(I)Ljava/lang/Object;"⟩, ⟨"java/util/ArrayList", "get", "(I)Ljava/lang/Object;"⟩),
  ("java/util/ArrayList", ⟨"java/util/List", "isEmpty", "()Z"⟩, ⟨"java/util/ArrayList", "isEmpty", "()Z"⟩),
  ("java/util/ArrayList", ⟨"java/util/List", "iterator", "()Ljava/util/Iterator;"⟩, ⟨"java/util/ArrayList", "iterator", "()Ljava/util/Iterator;"⟩),
  ("java/util/ArrayList", ⟨"java/util/List", "remove", "(I)Ljava/lang/Object;"⟩, ⟨"java/util/ArrayList", "remove", "(I)Ljava/lang/Object;"⟩),
  ("java/util/ArrayList", ⟨"java/util/List", "set", "(ILjava/lang/Object;)Ljava/lang/Object;"⟩, ⟨"java/util/ArrayList", "set", "(ILjava/lang/Object;)Ljava/lang/Object;"⟩),
  ("java/util/ArrayList", ⟨"java/util/List", "size", "()I"⟩, ⟨"java/util/ArrayList", "size", "()I"⟩),
  ("java/util/ArrayList", ⟨"java/util/Collection", "toArray", "()[Ljava/lang/Object;"⟩, ⟨"java/util/ArrayList", "toArray", "()[Ljava/lang/Object;"⟩),
  ("java/util/ArrayList$Itr", ⟨"java/util/Iterator", "hasNext", "()Z"⟩, ⟨"java/util/ArrayList$Itr", "hasNext", "()Z"⟩),
  ("java/util/ArrayList$Itr", ⟨"java/util/Iterator", "next", "()Ljava/lang/Object;"⟩, ⟨"java/util/ArrayList$Itr", "next", "()Ljava/lang/Object;"⟩),
  ("BlockPapers$Workshop$Hanging$Walk", ⟨"java/util/Iterator", "hasNext", "()Z"⟩, ⟨"BlockPapers$Workshop$Hanging$Walk", "hasNext", "()Z"⟩),
  ("BlockPapers$Workshop$Hanging$Walk", ⟨"java/util/Iterator", "next", "()Ljava/lang/Object;"⟩, ⟨"BlockPapers$Workshop$Hanging$Walk", "next", "()Ljava/lang/Object;"⟩),
  ("BlockPapers$Named", ⟨"BlockPapers$Deed", "done", "(LBlockPapers$Workshop;)I"⟩, ⟨"BlockPapers$Named", "done", "(LBlockPapers$Workshop;)I"⟩),
  ("BlockPapers$All", ⟨"BlockPapers$Deed", "done", "(LBlockPapers$Workshop;)I"⟩, ⟨"BlockPapers$All", "done", "(LBlockPapers$Workshop;)I"⟩),
  ("java/lang/String", ⟨"java/lang/CharSequence", "length", "()I"⟩, ⟨"java/lang/String", "length", "()I"⟩),
  ("java/lang/StringBuilder", ⟨"java/lang/CharSequence", "length", "()I"⟩, ⟨"java/lang/StringBuilder", "length", "()I"⟩),
  ("java/lang/String", ⟨"java/lang/CharSequence", "charAt", "(I)C"⟩, ⟨"java/lang/String", "charAt", "(I)C"⟩),
  ("java/lang/StringBuilder", ⟨"java/lang/CharSequence", "charAt", "(I)C"⟩, ⟨"java/lang/StringBuilder", "charAt", "(I)C"⟩),
  ("java/lang/String", ⟨"java/lang/CharSequence", "toString", "()Ljava/lang/String;"⟩, ⟨"java/lang/String", "toString", "()Ljava/lang/String;"⟩),
  ("BlockPapers$Block", ⟨"BlockPapers$Patterned", "repeat", "()I"⟩, ⟨"BlockPapers$Block", "repeat", "()I"⟩),
  ("BlockPapers$Block", ⟨"BlockPapers$Patterned", "within", "(I)I"⟩, ⟨"BlockPapers$Patterned", "within", "(I)I"⟩)]
/-- pairs of classes of which the first is not castable to the second -/
def ncL : List (String × String) := [("java/lang/IllegalArgumentException", "java/lang/IndexOutOfBoundsException"), ("java/lang/IllegalArgumentException", "java/lang/IllegalStateException"), ("java/lang/IllegalArgumentException", "java/util/NoSuchElementException"), ("java/lang/IllegalArgumentException", "java/lang/ArithmeticException"), ("java/lang/IllegalArgumentException", "java/lang/UnsupportedOperationException"), ("java/lang/IllegalArgumentException", "BlockPapers$Failure"), ("java/lang/IllegalArgumentException", "BlockPapers$FaultException"), ("java/lang/IndexOutOfBoundsException", "java/lang/IllegalArgumentException"), ("java/lang/IndexOutOfBoundsException", "java/lang/IllegalStateException"), ("java/lang/IndexOutOfBoundsException", "java/util/NoSuchElementException"), ("java/lang/IndexOutOfBoundsException", "java/lang/ArithmeticException"), ("java/lang/IndexOutOfBoundsException", "java/lang/UnsupportedOperationException"), ("java/lang/IndexOutOfBoundsException", "BlockPapers$Failure"), ("java/lang/IndexOutOfBoundsException", "BlockPapers$FaultException"), ("java/lang/IllegalStateException", "java/lang/IllegalArgumentException"), ("java/lang/IllegalStateException", "java/lang/IndexOutOfBoundsException"), ("java/lang/IllegalStateException", "java/util/NoSuchElementException"), ("java/lang/IllegalStateException", "java/lang/ArithmeticException"), ("java/lang/IllegalStateException", "java/lang/UnsupportedOperationException"), ("java/lang/IllegalStateException", "BlockPapers$Failure"), ("java/lang/IllegalStateException", "BlockPapers$FaultException"), ("java/util/NoSuchElementException", "java/lang/IllegalArgumentException"), ("java/util/NoSuchElementException", "java/lang/IndexOutOfBoundsException"), ("java/util/NoSuchElementException", "java/lang/IllegalStateException"), ("java/util/NoSuchElementException", "java/lang/ArithmeticException"), ("java/util/NoSuchElementException", "java/lang/UnsupportedOperationException"), ("java/util/NoSuchElementException", "BlockPapers$Failure"), ("java/util/NoSuchElementException", "BlockPapers$FaultException"), ("java/lang/ArithmeticException", "java/lang/IllegalArgumentException"), ("java/lang/ArithmeticException", "java/lang/IndexOutOfBoundsException"), ("java/lang/ArithmeticException", "java/lang/IllegalStateException"), ("java/lang/ArithmeticException", "java/util/NoSuchElementException"), ("java/lang/ArithmeticException", "java/lang/UnsupportedOperationException"), ("java/lang/ArithmeticException", "BlockPapers$Failure"), ("java/lang/ArithmeticException", "BlockPapers$FaultException"), ("java/lang/UnsupportedOperationException", "java/lang/IllegalArgumentException"), ("java/lang/UnsupportedOperationException", "java/lang/IndexOutOfBoundsException"), ("java/lang/UnsupportedOperationException", "java/lang/IllegalStateException"), ("java/lang/UnsupportedOperationException", "java/util/NoSuchElementException"), ("java/lang/UnsupportedOperationException", "java/lang/ArithmeticException"), ("java/lang/UnsupportedOperationException", "BlockPapers$Failure"), ("java/lang/UnsupportedOperationException", "BlockPapers$FaultException"), ("BlockPapers$Failure", "java/lang/IllegalArgumentException"), ("BlockPapers$Failure", "java/lang/IndexOutOfBoundsException"), ("BlockPapers$Failure", "java/lang/IllegalStateException"), ("BlockPapers$Failure", "java/util/NoSuchElementException"), ("BlockPapers$Failure", "java/lang/ArithmeticException"), ("BlockPapers$Failure", "java/lang/UnsupportedOperationException"), ("BlockPapers$Failure", "BlockPapers$FaultException"), ("BlockPapers$FaultException", "java/lang/IllegalArgumentException"), ("BlockPapers$FaultException", "java/lang/IndexOutOfBoundsException"), ("BlockPapers$FaultException", "java/lang/IllegalStateException"), ("BlockPapers$FaultException", "java/util/NoSuchElementException"), ("BlockPapers$FaultException", "java/lang/ArithmeticException"), ("BlockPapers$FaultException", "java/lang/UnsupportedOperationException"), ("BlockPapers$FaultException", "BlockPapers$Failure")]
/-- default methods: the receiver's class, the method named, the default that runs -/
def dfL : List (String × MethodName × MethodName) := [
  ("BlockPapers$Block", ⟨"BlockPapers$Block", "within", "(I)I"⟩, ⟨"BlockPapers$Patterned", "within", "(I)I"⟩),
  ("BlockPapers$Block", ⟨"BlockPapers$Block", "between", "(II)I"⟩, ⟨"BlockPapers$Patterned", "between", "(II)I"⟩),
  ("BlockPapers$Block", ⟨"BlockPapers$Patterned", "within", "(I)I"⟩, ⟨"BlockPapers$Patterned", "within", "(I)I"⟩)]
theorem ld_warm {C : String} {x y : MethodName} {s U : State} (hW : s.WarmedH U.vm) (h : (Cond.landsInDefault C x y).before #[] s = true) : (Cond.landsInDefault C x y).before #[] U = true := by
  have h1 : (Cond.landsInDefault C x y).before #[] (s.setVm U.vm) = true := (Cond.landsInDefault_setVm hW.alike (State.methodFound?_setVm hW.alike _ _ _)).trans h
  exact h1
/-- all words that hold all through a run, whatever the arguments -/
def pvL : List MethodName := [⟨"java/lang/AbstractStringBuilder", "ensureCapacityInternal", "(I)V"⟩, ⟨"java/lang/AbstractStringBuilder", "inflate", "()V"⟩, ⟨"java/lang/AbstractStringBuilder", "newCapacity", "(I)I"⟩, ⟨"java/lang/AbstractStringBuilder", "putStringAt", "(ILjava/lang/String;)V"⟩]
/-- private methods of the class above, called at a StringBuilder -/
def xwA : List Cond := pvL.map (fun y => Cond.selects "java/lang/StringBuilder" y y)
abbrev wA : List Cond := lw_all ++ (defaultWords_1 ++ xwA)
theorem wA_l {w : Cond} (h : w ∈ lw_all) : w ∈ wA := List.mem_append_left _ h
theorem wA_d {w : Cond} (h : w ∈ defaultWords_1) : w ∈ wA := List.mem_append_right _ (List.mem_append_left _ h)
theorem wA_x {w : Cond} (h : w ∈ xwA) : w ∈ wA := List.mem_append_right _ (List.mem_append_right _ h)
theorem dflt_good : (defaultWords_1 ++ xwA).all goodWord = true := by decide +kernel
theorem wA_good {w : Cond} (h : w ∈ wA) : (w.onTables && w.keeps) = true ∨ ∃ ty, w = .arrayClass ty := by
  rcases List.mem_append.mp h with h | h
  · exact (lw_self _ h).2
  · exact good_of_word (List.all_eq_true.mp dflt_good w h)
/-- what holds of the tables and of old cells all through a run -/
def Ent (D : va_G) (B : Nat) (E : Nat → Option Nat) (s : State) : Prop :=
  (∀ w ∈ wA, ∀ a : Array Value, w.before a s = true) ∧
  (∀ w ∈ lw_tbl, nwk w = true → va_Nw w s) ∧
  (∀ q ∈ fwL, va_Fw q.1 q.2.1 q.2.2 s) ∧
  va_AO "java/lang/Object" s ∧ va_K D vwCl [] s ∧
  (∀ q ∈ intS, va_Z q.1 q.2.1 q.2.2.1 (.int q.2.2.2) (fun a => B ≤ a) s s.heap) ∧
  (∀ q ∈ refS, va_Z q.1 q.2.1 q.2.2.1 (va_rf (E q.2.2.2)) (fun a => B ≤ a) s s.heap) ∧
  (vx_Zq Bundle.tN "UNASSIGNED_STACK" Bundle.steD (fun a => B ≤ a) s s.heap ∧ vx_Zq Bundle.tN "SUPPRESSED_SENTINEL" Bundle.listD (fun a => B ≤ a) s s.heap) ∧
  (∀ q ∈ strS, ∃ a, E q.2.2.2 = some a ∧ vk_R q.1 q.2.1 q.2.2.1 a s) ∧
  (va_Dc s ∧ ∃ mi, E 99 = some mi ∧ va_Mi "[Ljava/lang/Object;" mi s) ∧
  (∀ q ∈ ncL, va_Nc q.1 q.2 s) ∧
  (∀ q ∈ dfL, (Cond.landsInDefault q.1 q.2.1 q.2.2).before #[] s = true)
theorem Ent.word {D : va_G} {B : Nat} {E : Nat → Option Nat} {s : State} (h : Ent D B E s) {w : Cond} (hw : w ∈ lw_all) {a : Array Value} : w.before a s = true := h.1 w (wA_l hw) a
theorem Ent.nw {D : va_G} {B : Nat} {E : Nat → Option Nat} {s : State} (h : Ent D B E s) {w : Cond} (hw : w ∈ lw_tbl) (hk : nwk w = true) : va_Nw w s := h.2.1 w hw hk
theorem Ent.kK {D : va_G} {B : Nat} {E : Nat → Option Nat} {s : State} (h : Ent D B E s) : va_K D vwCl [] s := h.2.2.2.2.1
theorem Ent.nc {D : va_G} {B : Nat} {E : Nat → Option Nat} {s : State} (h : Ent D B E s) {C T : String} (hk : (C, T) ∈ ncL) : va_Nc C T s := h.2.2.2.2.2.2.2.2.2.2.1 _ hk
theorem fwL_cls : ∀ q ∈ fwL, q.2.1.cls ≠ "java/lang/invoke/MethodHandle" ∧ q.2.1.cls ≠ "java/lang/invoke/VarHandle" := by decide +kernel
/-- at a later state of the run: warmer tables, old cells as they were -/
theorem Ent.at {D : va_G} {B : Nat} {E : Nat → Option Nat} {s U : State} (h : Ent D B E s) (hW : s.WarmedH U.vm) (hk : ∀ a : Nat, a < s.heap.size → ¬ B ≤ a → U.heap[a]? = s.heap[a]?) : Ent D B E U := by
  obtain ⟨h1, h2, h3, h4, h5, h6, h7, ⟨h8, h8'⟩, h9, ⟨h10, mi, h11, h12⟩, h13, h14⟩ := h
  have hv := hW.alike
  refine ⟨fun w hw a => word_at hW (wA_good hw) (h1 w hw #[]), fun w hw hk => nwk_warm hk hW (h2 w hw hk), fun q hq => va_Fw.moved (fwL_cls q hq) hv (h3 q hq), h4.moved hv, va_K.moved hv h5, fun q hq => (va_Z.moved hv (h6 q hq)).kept hk, fun q hq => (va_Z.moved hv (h7 q hq)).kept hk, ⟨(vx_Zq.moved hv h8).kept hk, (vx_Zq.moved hv h8').kept hk⟩, fun q hq => ?_, ⟨h10.moved hv, mi, h11, h12.moved hv⟩, fun q hq => (h13 q hq).moved hv, fun q hq => ld_warm hW (h14 q hq)⟩
  obtain ⟨a, e1, e2⟩ := h9 q hq
  exact ⟨a, e1, e2.warm hW⟩
theorem va_Any.moved {E : String} {s U : State} {H H1 : Heap} {a : Nat} (hv : s.vm.Alike U.vm) (hp : ∀ (q : Nat) (cell : Cell), H[q]? = some cell → ∃ cell' : Cell, H1[q]? = some cell' ∧ cell'.cls = cell.cls ∧ cell'.vm = cell.vm) (h : va_Any E s H a) : va_Any E U H1 a := by
  obtain ⟨cell, h1, h2, ⟨kC, h3⟩, h4⟩ := h
  obtain ⟨cell', g1, g2, g3⟩ := hp a cell h1
  obtain ⟨k', hk', -⟩ := hv.2.2 _ _ h3
  refine ⟨cell', g1, by rw [g3]; exact h2, ⟨k', by rw [g2]; exact hk'⟩, fun comp hc => ?_⟩
  rw [hv.findClass] at hc
  rw [g2, hv.assignable]
  exact h4 comp hc
/-- the machine's heap has moved on as far as old classes and kinds are the same -/
def Kin (H H1 : Heap) : Prop := ∀ (q : Nat) (cell : Cell), H[q]? = some cell → ∃ cell' : Cell, H1[q]? = some cell' ∧ cell'.cls = cell.cls ∧ cell'.vm = cell.vm
theorem Kin.rf (H : Heap) : Kin H H := fun _ cell h => ⟨cell, h, rfl, rfl⟩
theorem atE.moved {D : va_G} {B : Nat} {s U : State} {H H1 : Heap} {a : Nat} {e : AE} (hv : s.vm.Alike U.vm) (hp : Kin H H1) (hq : H1[a]? = H[a]?) (h : atE D B s H a e) : atE D B U H1 a e := by
  cases e with
  | inl x =>
    obtain ⟨cell, h1, h2, h3, h4, h5, h6, h7, h8⟩ := h
    exact ⟨cell, by rw [hq]; exact h1, fun z => by rw [hv.findClass]; exact h2 z, State.isArrayOf_alike hv h3, h4, h5, h6, h7, fun j hj => ⟨(h8 j hj).1, fun y hy => va_Any.moved hv hp ((h8 j hj).2 y hy)⟩⟩
  | inr o =>
    obtain ⟨cell, r, h1, h2, h3⟩ := h
    exact ⟨cell, r, h1, by rw [hq]; exact h2, h3⟩
theorem Wc.vm {D : va_G} {h : AH} {s U : State} {H : Heap} (hv : s.vm.Alike U.vm) (w : Wc D h s H) : Wc D h U H := ⟨w.1, w.2.1, fun a e he => (w.2.2 a e he).moved hv (Kin.rf H) rfl⟩
abbrev Out : Type := (Option Value) ⊕ Nat
/-- a method: class, name, code, places of locals, answer, frames, words of locals, handlers -/
abbrev MS : Type := String × MethodName × ByteArray × Nat × Option FieldType × Nat × Nat × List (Nat × Nat × Nat × Nat)
/-- a walk: class ids and slots, launch, method, arguments, the abstract heap at its start and at its end, what comes out -/
abbrev CT : Type := va_G × Launch × MS × List Value × AH × AH × Out
def gD (g : CT) : va_G := g.1
def gL (g : CT) : Launch := g.2.1
def gO (g : CT) : String := g.2.2.1.1
def gY (g : CT) : MethodName := g.2.2.1.2.1
def gC (g : CT) : ByteArray := g.2.2.1.2.2.1
def gN (g : CT) : Nat := g.2.2.1.2.2.2.1
def gT (g : CT) : Option FieldType := g.2.2.1.2.2.2.2.1
def gFr (g : CT) : Nat := g.2.2.1.2.2.2.2.2.1
def gLo (g : CT) : Nat := g.2.2.1.2.2.2.2.2.2.1
def gHd (g : CT) : List (Nat × Nat × Nat × Nat) := g.2.2.1.2.2.2.2.2.2.2
def gV (g : CT) : List Value := g.2.2.2.1
def g0 (g : CT) : AH := g.2.2.2.2.1
def gF (g : CT) : AH := g.2.2.2.2.2.1
def gU (g : CT) : Out := g.2.2.2.2.2.2
def gA (g : CT) : Nat → Prop := fun q => aB (g0 g) ≤ q
def rmV (fr lo : Nat) (h0 hF : AH) : Room := { frames := fr, cells := aZ hF - aZ h0, slots := aS hF - aS h0, locals := lo }
def vPc (D : va_G) (h0 : AH) (args : List Value) : Array Value → State → Prop := fun v U => v = args.toArray ∧ Ent D (aB h0) (aE h0) U ∧ Wc D h0 U U.heap
def vQc (D : va_G) (h0 hF : AH) (o : Out) : Array Value → State → Outcome → State → Prop := fun _ st oc t => ∃ v, o = .inl v ∧ oc = .returned v ∧ Wc D hF t t.heap ∧ va_F (fun q => aB h0 ≤ q) st t
def vXc (D : va_G) (h0 hF : AH) (o : Out) : String → Nat → State → State → Prop := fun E q st t => o = .inr q ∧ Wc D hF t t.heap ∧ va_F (fun q => aB h0 ≤ q) st t ∧ ∃ ci r fs, aC hF q = some (.inr (ci, fs)) ∧ vwCl[ci]? = some r ∧ r.1 = E
/-- A METHOD's CONTRACT: from h0 with these arguments it comes to hF with o -/
def MetV (D : va_G) (l : Launch) (y : MethodName) (cw : Cond) (fr lo : Nat) (args : List Value) (h0 hF : AH) (o : Out) : Prop :=
  aLe h0 hF ∧ vx_Met l y [cw] (rmV fr lo h0 hF) (vPc D h0 args) (vQc D h0 hF o) (vXc D h0 hF o) (aZ hF - aZ h0) (aS hF - aS h0) (fun q => aB h0 ≤ q)
def Cx (g : CT) (p : Program) (s : State) (m : MethodId) (meth : Method) (c : Code) : Prop :=
  p.tables.exec = Jvm.exec ∧ c.code = gC g ∧ c.maxLocals = gN g ∧ meth.sig.returnType = gT g ∧ s.vm.findClass (gO g) = some m.cls ∧ meth.locks = false ∧ meth.name = (gY g).name ∧ c.exceptionTable.toList = tableOf (gHd g) ∧ (gL g).stackTraces = false ∧ aB (g0 g) ≤ s.heap.size ∧ aZ (g0 g) = s.heap.size ∧ Ent (gD g) (aB (g0 g)) (aE (g0 g)) s
def gRm (g : CT) : Room := rmV (gFr g) (gLo g) (g0 g) (gF g)
def gQ (g : CT) (below : List Frame) (s : State) : State → Prop := vx_MQ below (vQc (gD g) (g0 g) (gF g) (gU g)) (vXc (gD g) (g0 g) (gF g) (gU g)) (gV g).toArray s (aZ (gF g) - aZ (g0 g)) (aS (gF g) - aS (g0 g)) (gA g)
def V (g : CT) (h : AH) (pc : Nat) (lv : List (Nat × Value)) (st : List Value) : Prop :=
  aLe h (gF g) ∧ (aLe (g0 g) h → ∀ (p : Program) (e : Env) (s : State) (m : MethodId) (below : List Frame) (meth : Method) (c : Code) (H : Heap) (locs : List Loc) (ls : Array Slot), Cx g p s m meth c → Wc (gD g) h s H → va_S (gA g) s.heap H locs → lv_has ls (gN g) lv → W p (gL g) e (gRm g) s m (gV g).toArray below meth c H locs (aZ h - aZ (g0 g)) (aS h - aS (g0 g)) (gQ g below s) (F0 m pc ls st))
/-- the same with the object q thrown -/
def VX (g : CT) (h : AH) (pc : Nat) (lv : List (Nat × Value)) (st : List Value) (q : Nat) : Prop :=
  aLe h (gF g) ∧ (aLe (g0 g) h → ∀ (p : Program) (e : Env) (s : State) (m : MethodId) (below : List Frame) (meth : Method) (c : Code) (H : Heap) (locs : List Loc) (ls : Array Slot), Cx g p s m meth c → Wc (gD g) h s H → va_S (gA g) s.heap H locs → lv_has ls (gN g) lv → vx_W p (gL g) e (gRm g) s m (gV g).toArray below meth c H locs (aZ h - aZ (g0 g)) (aS h - aS (g0 g)) (gQ g below s) (F0 m pc ls st) q)
/-! ## rows that touch neither heap nor locals -/
theorem v_op {g : CT} {h : AH} {pc pc' : Nat} {lv : List (Nat × Value)} {st st' : List Value} {cc : ByteArray} (hc : gC g = cc)
    (hop : ∀ {p : Program} {l : Launch} {e : Env} {R : Room} {s : State} {m : MethodId} {args : Array Value} {below : List Frame} {meth : Method} {c : Code} {H : Heap} {locs : List Loc} {cells slots : Nat} {Q : State → Prop} {ls : Array Slot}, p.tables.exec = Jvm.exec → c.code = cc → lv_has ls (gN g) lv → W p l e R s m args below meth c H locs cells slots Q (F0 m pc' ls st') → W p l e R s m args below meth c H locs cells slots Q (F0 m pc ls st))
    (k : V g h pc' lv st') : V g h pc lv st :=
  ⟨k.1, fun h0 p e s m below meth c H locs ls C w S L => hop C.1 (C.2.1.trans hc) L (k.2 h0 p e s m below meth c H locs ls C w S L)⟩
theorem v_stp {g : CT} {h : AH} {pc pc' : Nat} {lv lv' : List (Nat × Value)} {st st' : List Value} {cc : ByteArray} (hc : gC g = cc)
    (hop : ∀ {p : Program} {l : Launch} {e : Env} {R : Room} {s : State} {m : MethodId} {args : Array Value} {below : List Frame} {meth : Method} {c : Code} {H : Heap} {locs : List Loc} {cells slots : Nat} {Q : State → Prop} {ls : Array Slot}, p.tables.exec = Jvm.exec → c.code = cc → lv_has ls (gN g) lv → (∀ ls' : Array Slot, lv_has ls' (gN g) lv' → W p l e R s m args below meth c H locs cells slots Q (F0 m pc' ls' st')) → W p l e R s m args below meth c H locs cells slots Q (F0 m pc ls st))
    (k : V g h pc' lv' st') : V g h pc lv st :=
  ⟨k.1, fun h0 p e s m below meth c H locs ls C w S L => hop C.1 (C.2.1.trans hc) L (fun ls' L' => k.2 h0 p e s m below meth c H locs ls' C w S L')⟩
theorem v_br {g : CT} {h : AH} {pc pt pf : Nat} {lv : List (Nat × Value)} {st st' : List Value} {cc : ByteArray} {cond : Prop} (hc : gC g = cc)
    (hop : ∀ {p : Program} {l : Launch} {e : Env} {R : Room} {s : State} {m : MethodId} {args : Array Value} {below : List Frame} {meth : Method} {c : Code} {H : Heap} {locs : List Loc} {cells slots : Nat} {Q : State → Prop} {ls : Array Slot}, p.tables.exec = Jvm.exec → c.code = cc → (cond → W p l e R s m args below meth c H locs cells slots Q (F0 m pt ls st')) → (¬ cond → W p l e R s m args below meth c H locs cells slots Q (F0 m pf ls st')) → W p l e R s m args below meth c H locs cells slots Q (F0 m pc ls st))
    (kt : cond → V g h pt lv st') (kf : ¬ cond → V g h pf lv st') : V g h pc lv st := by
  refine ⟨?_, fun h0 p e s m below meth c H locs ls C w S L => hop C.1 (C.2.1.trans hc) (fun z => (kt z).2 h0 p e s m below meth c H locs ls C w S L) (fun z => (kf z).2 h0 p e s m below meth c H locs ls C w S L)⟩
  rcases Classical.em cond with z | z
  · exact (kt z).1
  · exact (kf z).1
theorem ite_of {β : Type} {c : Prop} [Decidable c] {A B : Option β} {o : β} (h : (if c then A else B) = some o) : (c → A = some o) ∧ (¬ c → B = some o) := by
  constructor
  · intro z; rw [if_pos z] at h; exact h
  · intro z; rw [if_neg z] at h; exact h
