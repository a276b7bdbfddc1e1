/-! typed outcomes, ends of calls, guards; exceptions made at one go -/
set_option maxRecDepth 100000
set_option maxHeartbeats 1000000
def oV (_ : Unit) : Out := .inl none
def oI (x : Int32) : Out := .inl (some (.int x))
def oR (x : Nat) : Out := .inl (some (.ref x))
def oO (x : Option Nat) : Out := .inl (some (va_rf x))
def oD (x : UInt64) : Out := .inl (some (.double x))
def oF (x : UInt32) : Out := .inl (some (.float x))
def oX {α : Type} (o : α → Out) (r : α ⊕ Nat) : Out := match r with | .inl a => o a | .inr q => .inr q
/-- a guard -/
def gd {β : Type} (b : Bool) (K : Option β) : Option β := match b with | true => K | false => none
theorem gd_of {β : Type} {b : Bool} {K : Option β} {o : β} (h : gd b K = some o) : b = true ∧ K = some o := by
  cases b with
  | true => exact ⟨rfl, h⟩
  | false => exact absurd h (by simp [gd])
theorem gd_t {β : Type} {b : Bool} {K : Option β} (h : b = true) : gd b K = K := by subst h; rfl
theorem ite_cs {β : Type} {c : Prop} [Decidable c] {A B : Option β} {o : β} (h : (if c then A else B) = some o) : (c ∧ A = some o) ∨ (¬ c ∧ B = some o) := by
  by_cases z : c
  · rw [if_pos z] at h; exact Or.inl ⟨z, h⟩
  · rw [if_neg z] at h; exact Or.inr ⟨z, h⟩
/-- a value as narrow as its type -/
def nrw (ft : FieldType) (v : Int32) : Bool := fits ft (.int v) && match narrow ft (.int v) with | .int w => w == v | _ => false
theorem nrw_of {ft : FieldType} {v : Int32} (h : nrw ft v = true) : narrow ft (.int v) = .int v := by
  unfold nrw at h
  replace h := (Bool.and_eq_true _ _ ▸ h).2
  split at h
  · rename_i w e; rw [e, eq_of_beq h]
  · cases h
theorem fit_of {ft : FieldType} {v : Int32} (h : nrw ft v = true) : fits ft (.int v) = true := by
  unfold nrw at h
  exact (Bool.and_eq_true _ _ ▸ h).1
theorem vf64_of {x : UInt64} (c : decide (x &&& 0x7fffffffffffffff ≤ 0x7ff0000000000000) = true) : vf_n64 x := by unfold vf_n64; exact of_decide_eq_true c
theorem vf32_of {x : UInt32} (c : decide (x &&& 0x7fffffff ≤ 0x7f800000) = true) : vf_n32 x := by unfold vf_n32; exact of_decide_eq_true c
/-- an object thrown on -/
def outX {α : Type} (h : AH) (q : Nat) : Option ((α ⊕ Nat) × AH) := match h.1 q with
  | some (.inr o) => if h.2.2.2.1 ≤ q ∧ o.1 < 27 then some (.inr q, h) else none
  | _ => none
theorem outX_of {α : Type} {h hF : AH} {q : Nat} {r : α ⊕ Nat} (e : outX h q = some (r, hF)) : r = .inr q ∧ hF = h ∧ aB h ≤ q ∧ ∃ ci fs row, aC h q = some (.inr (ci, fs)) ∧ vwCl[ci]? = some row := by
  unfold outX at e
  split at e
  · rename_i o ho
    split at e
    · rename_i hb
      cases e
      have hl : o.1 < vwCl.length := hb.2
      exact ⟨rfl, rfl, hb.1, o.1, o.2, _, ho, List.getElem?_eq_getElem hl⟩
    · cases e
  · cases e
section VM
variable {g : CT} {h h1 : AH} {pc pc' : Nat} {lv : List (Nat × Value)} {rest st0 : List Value} {cc : ByteArray} {own C : String} {index ci N a : Nat} {T : u_T} {β : Type} {o : β}
theorem v_outA {α : Type} {oc : α → Out} {r : α ⊕ Nat} {hF : AH} {q : Nat} (hpass : ∀ z ∈ tableOf (gHd g), covers z pc = false) (hU : gU g = oX oc r) (hF' : gF g = hF) (e : outX h q = some (r, hF)) : VX g h pc lv rest q := by
  obtain ⟨rfl, rfl, hb, ci, fs, row, he, hcl⟩ := outX_of e
  exact v_out hb hcl he hpass hU hF'
theorem v_outB {α : Type} {oc : α → Out} {r : α ⊕ Nat} {hF : AH} {q : Nat} (ho : gO g = own) (hcl : vwCl[ci]? = some (C, T, N)) (hi : isC h ci q = true) (hpass : ∀ z ∈ tableOf (gHd g), covers z pc = false ∨ (z.catchType ≠ 0 ∧ ∃ nm : String, Cond.classLink own z.catchType nm ∈ lw_all ∧ (C, nm) ∈ ncL)) (hU : gU g = oX oc r) (hF' : gF g = hF) (e : outX h q = some (r, hF)) : VX g h pc lv rest q := by
  obtain ⟨rfl, rfl, hb, -, -, -, -, -⟩ := outX_of e
  obtain ⟨fs, he⟩ := isC_of hi
  exact v_outP ho hb hcl he hpass hU hF'
theorem kS {v0 : Value} (k : V g h1 pc' lv (v0 :: rest)) : ∀ v, (Sum.inl (some v0) : Out) = .inl v → V g h1 pc' lv (v.toList ++ rest) := fun v hv => by cases hv; exact k
theorem kU (k : V g h1 pc' lv rest) : ∀ v, (Sum.inl none : Out) = .inl v → V g h1 pc' lv (v.toList ++ rest) := fun v hv => by cases hv; exact k
theorem kN {w : Option Value} : ∀ q, (Sum.inl w : Out) = .inr q → VX g h1 pc lv rest q := fun q hq => nomatch hq
theorem kM {q : Nat} : ∀ v, (Sum.inr q : Out) = .inl v → V g h1 pc' lv (v.toList ++ rest) := fun v hv => nomatch hv
theorem kX {q0 : Nat} (k : VX g h1 pc lv rest q0) : ∀ q, (Sum.inr q0 : Out) = .inr q → VX g h1 pc lv rest q := fun q hq => by cases hq; exact k
/-- instanceof that doesn't hold -/
theorem v_instF {nm : String} (hc : gC g = cc) (ho : gO g = own) (hcl : vwCl[ci]? = some (C, T, N)) (q1 : Cond.classLink own index nm ∈ lw_all) (q2 : (C, nm) ∈ ncL) (d : decode cc pc = .ok (.instanceof index, 3)) (hp : pc + 3 = pc') (hi : isC h ci a = true) (kk : V g h pc' lv (.int 0 :: rest)) : V g h pc lv (.ref a :: rest) := by
  subst hp; subst hc; subst ho
  obtain ⟨fs, he⟩ := isC_of hi
  refine ⟨kk.1, fun hz p e s m below meth c H locs ls C0 w S L => ?_⟩
  have E := C0.2.2.2.2.2.2.2.2.2.2.2
  exact va_instNo C0.1 C0.2.1 C0.2.2.2.2.1 (E.word q1) (E.nc q2) (w.recv E hcl he) d (kk.2 hz p e s m below meth c H locs ls C0 w S L)
/-- words by the lists -/
def okw (w : Cond) : Bool := decide (w ∈ lw_all) || (decide (w ∈ lw_tbl) && nwk w)
theorem Ent.okw {D : va_G} {B : Nat} {E : Nat → Option Nat} {s : State} (En : Ent D B E s) {w : Cond} (hw : okw w = true) (hwt : nwk w = true → w.onTables = true) {av : Array Value} : w.before av s = true := by
  simp only [_root_.Jvm.Pilot.CBlockPapersLaw_law_r7773_b0dd90.okw, Bool.or_eq_true, Bool.and_eq_true, decide_eq_true_eq] at hw
  rcases hw with hw | ⟨hw, hk⟩
  · exact En.word hw
  · exact va_Nw.use (hwt hk) (En.nw hw hk)
end VM
