/-! Throwable.getCause (synchronized) -/
set_option maxRecDepth 100000
set_option maxHeartbeats 1000000
def yJ9_getCause : MethodName := ⟨"java/lang/Throwable", "getCause", "()Ljava/lang/Throwable;"⟩
abbrev cJ9_getCause : ByteArray := prog_44_method_8_code
def f_J9_getCause (x0 : Nat) (h : AH) : Option (Option Nat × AH) :=
  gd (isC h 6 x0 && decide (aB h ≤ x0)) <|
  bd (gtO h 6 x0 0) fun r =>
  some ((match r with | none => none | some c => if x0 = c then none else some c), h)
theorem w_J9_getCause (D : va_G) (l : Launch) (hl : l.stackTraces = false) (x0 : Nat) (h : AH) {r : Option Nat} {hF : AH} (e : f_J9_getCause x0 h = some (r, hF)) : MetV D l yJ9_getCause (Cond.codeSync yJ9_getCause cJ9_getCause 1 (Option.some (.object "java/lang/Throwable"))) 1 48 [.ref x0] h hF (oO r) := by
  sorry
section VY
variable {g : CT} {h h1 : AH} {pc pc' : Nat} {lv : List (Nat × Value)} {rest st0 : List Value} {cc : ByteArray} {own C : String} {index ci N a b : Nat} {T : u_T} {β : Type} {o : β} {oc : Out}
theorem k_UY {x y : MethodName} {bytes : ByteArray} {maxL fr lo n : Nat} {rt : Option FieldType} {As : List Value} (hc : gC g = cc) (ho : gO g = own) (hcl : vwCl[ci]? = some (C, T, N)) (hi : isC h ci b = true) (hM : MetV (gD g) (gL g) y (Cond.codeSync y bytes maxL rt) fr lo (.ref b :: As) h h1 oc) {owner : String} (qm : Cond.methodLink own index x ∈ wA) (qsm : Cond.sameMethod x.cls owner x.name x.desc ∈ wA) (qd : Cond.declares ⟨owner, x.name, x.desc⟩ ∈ lw_tbl ∨ (Cond.instanceMethod ⟨owner, x.name, x.desc⟩ ∈ lw_all ∧ ∃ b0 m0 r0, Cond.codeSync ⟨owner, x.name, x.desc⟩ b0 m0 r0 ∈ lw_all)) (qs : Cond.selects C x y ∈ lw_all) (qi : Cond.instanceMethod y ∈ lw_all) (qn : Cond.initialized y.cls ∈ lw_all) (qc : Cond.codeSync y bytes maxL rt ∈ lw_all)
    (hy : owner ≠ "java/lang/invoke/MethodHandle" ∧ owner ≠ "java/lang/invoke/VarHandle" ∧ (parseMethodDescriptor x.desc).map (fun d => d.parameters.length) = some n) (hR : fr + 1 ≤ gFr g ∧ 8 + (maxL + 11) + lo ≤ gLo g) (hn : As.length = n) (hst : st0 = As.reverse ++ .ref b :: rest) (hw8 : (rest.map fun v => v.category).sum ≤ 8) (d : decode cc pc = .ok (.invokevirtual index, 3)) (hp : pc + 3 = pc')
    (kk : ∀ v, oc = .inl v → V g h1 pc' lv (v.toList ++ rest)) (kx : ∀ q, oc = .inr q → VX g h1 pc lv rest q) : V g h pc lv st0 := by
  sorry
end VY
