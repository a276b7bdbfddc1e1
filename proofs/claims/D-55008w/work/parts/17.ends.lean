/-! ROWS over V: a method's ends, what is thrown and caught -/
set_option maxRecDepth 100000
set_option maxHeartbeats 1000000
section VE
variable {g : CT} {h : AH} {pc pc' : Nat} {lv : List (Nat × Value)} {rest : List Value} {cc : ByteArray} {own C ref : String} {T : u_T} {N ci index a b : Nat} {ty : Nat → FieldType} {β : Type} {o : β}
theorem qc_ret {v : Option Value} {s : State} {H : Heap} {locs : List Loc} {av : Array Value} (hU : gU g = .inl v) (hF : gF g = h) (w : Wc (gD g) h s H) (S : va_S (gA g) s.heap H locs) (t : State) (ht : t.heap = H) (hW : s.WarmedH t.vm) : vQc (gD g) (g0 g) (gF g) (gU g) av s (.returned v) t := by
  refine ⟨v, hU, rfl, ?_, S.F ht⟩
  rw [ht, hF]
  exact w.vm hW.alike
theorem v_iret {v : Int32} (hc : gC g = cc) (hT : gT g = some .int) (d : decode cc pc = .ok (.ireturn, 1)) (hU : gU g = .inl (some (.int v))) (hF : gF g = h) : V g h pc lv [.int v] := by
  subst hc
  refine ⟨by rw [hF]; exact aLe.rf h, fun hz p e s m below meth c H locs ls C0 w S L => vx_ret ?_⟩
  rw [hF]
  exact W.iret C0.1 C0.2.1 (C0.2.2.2.1.trans hT) (fun t ht hW => by have := qc_ret (av := (gV g).toArray) hU hF w S t ht hW; rw [hF] at this; exact this) S.2.2 d C0.2.2.2.2.2.1
/-- boolean, char, byte, short -/
theorem v_zret {v : Int32} {ft : FieldType} (hc : gC g = cc) (hT : gT g = some ft) (hn : narrow ft (.int v) = .int v) (d : decode cc pc = .ok (.ireturn, 1)) (hU : gU g = .inl (some (.int v))) (hF : gF g = h) : V g h pc lv [.int v] := by
  subst hc
  refine ⟨by rw [hF]; exact aLe.rf h, fun hz p e s m below meth c H locs ls C0 w S L => vx_ret ?_⟩
  rw [hF]
  exact W.zret C0.1 C0.2.1 (C0.2.2.2.1.trans hT) hn (fun t ht hW => by have := qc_ret (av := (gV g).toArray) hU hF w S t ht hW; rw [hF] at this; exact this) S.2.2 d C0.2.2.2.2.2.1
theorem v_dret {v : UInt64} (hc : gC g = cc) (hT : gT g = some .double) (d : decode cc pc = .ok (.dreturn, 1)) (hU : gU g = .inl (some (.double v))) (hF : gF g = h) : V g h pc lv [.double v] := by
  subst hc
  refine ⟨by rw [hF]; exact aLe.rf h, fun hz p e s m below meth c H locs ls C0 w S L => vx_ret ?_⟩
  rw [hF]
  exact W.dret C0.1 C0.2.1 (C0.2.2.2.1.trans hT) (fun t ht hW => by have := qc_ret (av := (gV g).toArray) hU hF w S t ht hW; rw [hF] at this; exact this) S.2.2 d C0.2.2.2.2.2.1
theorem v_fret {v : UInt32} (hc : gC g = cc) (hT : gT g = some .float) (d : decode cc pc = .ok (.freturn, 1)) (hU : gU g = .inl (some (.float v))) (hF : gF g = h) : V g h pc lv [.float v] := by
  subst hc
  refine ⟨by rw [hF]; exact aLe.rf h, fun hz p e s m below meth c H locs ls C0 w S L => vx_ret ?_⟩
  rw [hF]
  exact W.fret C0.1 C0.2.1 (C0.2.2.2.1.trans hT) (fun t ht hW => by have := qc_ret (av := (gV g).toArray) hU hF w S t ht hW; rw [hF] at this; exact this) S.2.2 d C0.2.2.2.2.2.1
theorem v_ret (hc : gC g = cc) (hT : gT g = none) (d : decode cc pc = .ok (.return_, 1)) (hU : gU g = .inl none) (hF : gF g = h) : V g h pc lv [] := by
  subst hc
  refine ⟨by rw [hF]; exact aLe.rf h, fun hz p e s m below meth c H locs ls C0 w S L => vx_ret ?_⟩
  rw [hF]
  exact W.vret C0.1 C0.2.1 (C0.2.2.2.1.trans hT) (fun t ht hW => by have := qc_ret (av := (gV g).toArray) hU hF w S t ht hW; rw [hF] at this; exact this) S.2.2 d C0.2.2.2.2.2.1
theorem v_aret {v : Value} {rt : FieldType} (hc : gC g = cc) (hT : gT g = some rt) (hrt : (∃ n, rt = .object n) ∨ ∃ t, rt = .array t) (hv : v = .null ∨ ∃ a, v = .ref a) (d : decode cc pc = .ok (.areturn, 1)) (hU : gU g = .inl (some v)) (hF : gF g = h) : V g h pc lv [v] := by
  subst hc
  refine ⟨by rw [hF]; exact aLe.rf h, fun hz p e s m below meth c H locs ls C0 w S L => vx_ret ?_⟩
  rw [hF]
  exact W.aret C0.1 C0.2.1 (C0.2.2.2.1.trans hT) hrt hv (fun t ht hW => by have := qc_ret (av := (gV g).toArray) hU hF w S t ht hW; rw [hF] at this; exact this) S.2.2 d C0.2.2.2.2.2.1
/-- athrow -/
theorem v_athrow {q : Nat} (hc : gC g = cc) (d : decode cc pc = .ok (.athrow, 1)) (kk : VX g h pc lv rest q) : V g h pc lv (.ref q :: rest) := by
  subst hc
  exact ⟨kk.1, fun hz p e s m below meth c H locs ls C0 w S L => vx_athrow C0.1 C0.2.1 d (kk.2 hz p e s m below meth c H locs ls C0 w S L)⟩
theorem Wc.exc {D : va_G} {B : Nat} {E : Nat → Option Nat} {s : State} {H : Heap} {fs : List Value} (En : Ent D B E s) (w : Wc D h s H) (hb : aB h ≤ a) (hcl : vwCl[ci]? = some (C, T, N)) (he : aC h a = some (.inr (ci, fs))) : ∃ cell : Cell, H[a]? = some cell ∧ cell.vm = .none ∧ s.vm.findClass C = some cell.cls := by
  obtain ⟨cell, r, h1, q1, q2, q3, q5, q6, -⟩ := w.2.2 a _ he
  exact ⟨cell, q1, q6 hb, by rw [q2]; exact (En.kK.1 ci _ hcl).2.1⟩
/-- the thrown object leaves the method: no handler of it covers the place or takes the class -/
theorem v_out {q : Nat} {fs : List Value} (hb : aB h ≤ q) (hcl : vwCl[ci]? = some (C, T, N)) (he : aC h q = some (.inr (ci, fs))) (hpass : ∀ z ∈ tableOf (gHd g), covers z pc = false) (hU : gU g = .inr q) (hF : gF g = h) : VX g h pc lv rest q := by
  refine ⟨by rw [hF]; exact aLe.rf h, fun hz p e s m below meth c H locs ls C0 w S L => ?_⟩
  have E := C0.2.2.2.2.2.2.2.2.2.2.2
  obtain ⟨cell, c1, c2, c3⟩ := w.exc E hb hcl he
  refine vx_out (E := C) (ce := cell) (by rw [C0.2.2.2.2.2.2.2.1]; exact hpass) C0.2.2.2.2.2.1 c1 c2 c3 (fun t ht hv => ?_) S.2.2 (by rw [hF]; exact Nat.le_refl _) (by rw [hF]; exact Nat.le_refl _)
  refine ⟨hU, ?_, S.F ht, ci, _, fs, by rw [hF]; exact he, hcl, rfl⟩
  rw [ht, hF]
  exact w.vm hv
/-- .. or its handlers there don't take its class -/
theorem v_outP {q : Nat} {fs : List Value} (ho : gO g = own) (hb : aB h ≤ q) (hcl : vwCl[ci]? = some (C, T, N)) (he : aC h q = some (.inr (ci, fs))) (hpass : ∀ z ∈ tableOf (gHd g), covers z pc = false ∨ (z.catchType ≠ 0 ∧ ∃ nm : String, Cond.classLink own z.catchType nm ∈ lw_all ∧ (C, nm) ∈ ncL)) (hU : gU g = .inr q) (hF : gF g = h) : VX g h pc lv rest q := by
  subst ho
  refine ⟨by rw [hF]; exact aLe.rf h, fun hz p e s m below meth c H locs ls C0 w S L => ?_⟩
  have E := C0.2.2.2.2.2.2.2.2.2.2.2
  obtain ⟨cell, c1, c2, c3⟩ := w.exc E hb hcl he
  refine vx_outP (own := gO g) (E := C) (ce := cell) C0.2.2.2.2.1 C0.2.2.2.2.2.1 (by
    rw [C0.2.2.2.2.2.2.2.1]
    intro z hz9
    rcases hpass z hz9 with h9 | ⟨h9, nm, q9, q8⟩
    · exact Or.inl h9
    · exact Or.inr ⟨h9, nm, E.word q9, E.nc q8⟩) c1 c2 c3 (fun t ht hv => ?_) S.2.2 (by rw [hF]; exact Nat.le_refl _) (by rw [hF]; exact Nat.le_refl _)
  refine ⟨hU, ?_, S.F ht, ci, _, fs, by rw [hF]; exact he, hcl, rfl⟩
  rw [ht, hF]
  exact w.vm hv
/-- caught by the row x of the method's table -/
theorem v_catch {q : Nat} {fs : List Value} {nm : String} (ho : gO g = own) (hb : aB h ≤ q) (hcl : vwCl[ci]? = some (C, T, N)) (he : aC h q = some (.inr (ci, fs))) (pre : List ExceptionTableEntry) (x : ExceptionTableEntry) (suf : List ExceptionTableEntry) (hs : tableOf (gHd g) = pre ++ x :: suf)
    (hpass : ∀ z ∈ pre, covers z pc = false ∨ (z.catchType ≠ 0 ∧ ∃ nm : String, Cond.classLink own z.catchType nm ∈ lw_all ∧ (C, nm) ∈ ncL)) (hx : covers x pc = true) (h0 : x.catchType ≠ 0) (q1 : Cond.classLink own x.catchType nm ∈ lw_all) (q2 : Cond.castable C nm ∈ lw_tbl)
    (kk : V g h x.handlerPc lv [.ref q]) : VX g h pc lv rest q := by
  subst ho
  refine ⟨kk.1, fun hz p e s m below meth c H locs ls C0 w S L => ?_⟩
  have E := C0.2.2.2.2.2.2.2.2.2.2.2
  obtain ⟨cell, c1, c2, c3⟩ := w.exc E hb hcl he
  refine vx_catch (own := gO g) (E := C) (ce := cell) (name := nm) C0.2.2.2.2.1 pre x suf (by rw [C0.2.2.2.2.2.2.2.1]; exact hs) (by
    intro z hz9
    rcases hpass z hz9 with h9 | ⟨h9, nm, q9, q8⟩
    · exact Or.inl h9
    · exact Or.inr ⟨h9, nm, E.word q9, E.nc q8⟩) hx h0 (E.word q1) ((E.nw q2 rfl).use rfl) c1 c2 c3 (kk.2 hz p e s m below meth c H locs ls C0 w S L)
end VE
