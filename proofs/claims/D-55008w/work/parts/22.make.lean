/-! new E() with its <init>() in one row (no traces kept) -/
set_option maxRecDepth 100000
set_option maxHeartbeats 1000000
theorem nwk_tab {w : Cond} (h : nwk w = true) : w.onTables = true := by
  cases w <;> first | exact absurd h Bool.false_ne_true | rfl
section VMK
variable {g : CT} {h h1 : AH} {pc pc' : Nat} {lv : List (Nat × Value)} {rest st0 : List Value} {cc : ByteArray} {own C : String} {index ci N a : Nat} {T : u_T} {β : Type} {o : β}
theorem v_make0 {cls : String} {names : List String} {ik ic : Nat} {T0 : u_T} (hc : gC g = cc) (ho : gO g = own) (hl : (gL g).stackTraces = false) (hcls : Bundle.fit cls = true) (hnames : ∀ n ∈ names, Bundle.fit n = true)
    (hk : Cond.classLink own ik cls ∈ lw_all) (hini : Cond.initialized cls ∈ lw_all) (hat : ∀ w ∈ vx_at0 own ic cls names, okw w = true)
    (hcl : vwCl[ci]? = some (cls, T0, 0)) (h6 : ci ≠ 6) (hR : names.length + 3 < gFr g ∧ (rest.map fun v => v.category).sum + (13 * (names.length + 1) + 42) ≤ gLo g)
    (d0 : decode cc pc = .ok (.new ik, 3)) (d3 : decode cc (pc + 3) = .ok (.dup, 1)) (d4 : decode cc (pc + 4) = .ok (.invokespecial ic, 3)) (hp : pc + 7 = pc')
    (kk : V g (aNew h 6 (.inr (ci, []))) pc' lv (.ref (aZ h) :: rest)) : V g h pc lv rest := by
  subst hp; subst hc; subst ho
  refine ⟨(aLe.nw h _ _).tr kk.1, fun hz p e s m below meth c H locs ls C0 w S L => ?_⟩
  have En := C0.2.2.2.2.2.2.2.2.2.2.2
  have hroom := room_c (k := h) hz kk.1
  have hown : s.vm.findClass (gO g) = some m.cls := C0.2.2.2.2.1
  have hexec := C0.1
  have hb := C0.2.1
  have hsize : ls.size = c.maxLocals := by rw [C0.2.2.1]; exact L.1
  intro T hT X
  subst hT
  have htr : e.platform.stackTraces = false := (show e.platform.stackTraces = (gL g).stackTraces by rw [X.admits.platform]).trans hl
  have Y := vx_rebase X (R' := { frames := gFr g, locals := gLo g, cells := 1, slots := 6 }) (Nat.le_refl _) (Nat.le_refl _) hroom.1 hroom.2
  obtain ⟨s', hA'⟩ : ∃ z, z = (T.setVm s.vm).setFrames (.invoking m (gV g).toArray :: below) := ⟨_, rfl⟩
  rw [← hA'] at Y
  have hvm : s'.vm = s.vm := by rw [hA']; rfl
  have hhp : s'.heap = T.heap := by rw [hA']; rfl
  have hW0 : s.WarmedH s'.vm := by rw [hvm]; exact State.WarmedH.refl s
  have hB : aB (g0 g) ≤ s.heap.size := C0.2.2.2.2.2.2.2.2.2.1
  have Ek : Ent (gD g) (aB (g0 g)) (aE (g0 g)) s' := En.at hW0 (fun a ha hna => by rw [hhp]; exact S.2.1 a ha hna)
  have hat' : ∀ w ∈ vx_at0 (gO g) ic cls names, w.before (gV g).toArray s' = true := fun w hw => Ek.okw (hat w hw) nwk_tab
  have hats : ∀ w ∈ Bundle.ownAtoms0 (gO g) ic cls names, w.before (gV g).toArray s' = true := vx_own hat' (vx_isRefq Ek.2.2.2.2.2.2.2.1.1.1) (vx_isRefq Ek.2.2.2.2.2.2.2.1.2.1) Ek.2.2.2.2.2.2.2.1.1.2.word Ek.2.2.2.2.2.2.2.1.2.2.word
  have hown' : s'.vm.findClass (gO g) = some m.cls := by rw [hvm]; exact hown
  have hins : (Cond.instantiable cls 6).before (gV g).toArray s' = true := hats _ (by simp [Bundle.ownAtoms0])
  obtain ⟨vm₁, cX, kX, hfX, hkX, -, -, X₁, st1⟩ := Y.newCold hexec (own := gO g) (C := cls) (index := ik) (n := 6) hown' (Ek.word hk) hins (Ek.word hini)
    (g := F0 m pc ls rest) rfl (by rw [hb]; exact d0) (Nat.le_refl _) (Nat.le_refl _)
  generalize hT1 : (T.setVm vm₁).pushCell { cls := cX, slots := kX.instanceTypes.map defaultValue, vm := .none } = T1 at X₁ st1
  have hcat : (Value.ref T.heap.size).category = 1 := rfl
  have hcellA : T1.heap[T.heap.size]? = some (freshCell cX kX) := by rw [← hT1]; exact State.heap_pushCell_size _ _
  have d3' : decode c.code (pc + 3) = .ok (.dup, 1) := by rw [hb]; exact d3
  obtain ⟨V, ce, L9, Z, hL, hlt, hcl9, hvm9, st⟩ := vx_ctorMade0 X₁ hexec htr (own := gO g) (cls := cls) (names := names) (ic := ic) hown' hcls hnames hats (fun x hx => nomatch hx) hfX hkX hcellA (by rw [hhp]; exact Nat.le_refl _)
    (g := { method := m, pc := pc + 4, locals := ls, stack := .ref T.heap.size :: .ref T.heap.size :: rest, locked := none }) rfl hsize (rest := rest) rfl
    (by rw [hb]; exact d4) hR.1 (by have := hR.2; simp only [List.map_cons, List.sum_cons, hcat]; omega)
  have Z0 := Stand.forget (locs := []) Z (fun y hy => by rw [hL y hy, hhp]; exact Nat.le_refl _)
  obtain ⟨f1, f2⟩ := vx_frame Z0.same
  have f3 := Z0.same.2.2.1
  rw [hhp] at f1 f2
  have hcid : ce.cls = (gD g).1 ci := by
    rw [hcl9]
    have h1 := (En.kK.1 ci _ hcl).2.1
    rw [hvm] at hfX
    exact Option.some.inj (hfX.symm.trans h1)
  have hh : (V.setCell T.heap.size ce).heap[T.heap.size]? = some ce := heapAt_setCell_self (s := V) ce hlt
  subst hA'
  have X5 := vx_back9 X Y Z0
  have hcnt := cnt_c (n := 6) (e := .inr (ci, [])) hz
  have X6 : Stand p (gL g) e (gRm g) s m (gV g).toArray below meth c (V.setCell T.heap.size ce) locs (aZ (aNew h 6 (.inr (ci, []))) - aZ (g0 g)) (aS (aNew h 6 (.inr (ci, []))) - aS (g0 g)) := by
    rw [hcnt.1, hcnt.2]
    exact { X5 with same := X5.same.mono (by omega) (by omega) }
  have oq : ∀ q : Nat, q < T.heap.size → (V.setCell T.heap.size ce).heap[q]? = T.heap[q]? := fun q hq => f2 q hq (fun z hz => nomatch hz)
  have z1 : (V.setCell T.heap.size ce).heap.size = T.heap.size + 1 := by
    have b1 : (V.setCell T.heap.size ce).heap.size ≤ T.heap.size + 1 := f3
    have b2 := (Array.getElem?_eq_some_iff.mp hh).1
    omega
  have hq : T.heap.size = aZ h := w.1
  obtain ⟨t, a1, b1⟩ := kk.2 (hz.tr (aLe.nw h _ _)) p e s m below meth c (V.setCell T.heap.size ce).heap locs ls C0 (w.new z1 oq ⟨ce, _, hcl, hh, hcid, (by rw [hvm9]; exact (fun h => by cases h)), (by rw [hvm9]; rfl), fun _ => hvm9, (fun z => absurd z h6), rfl, fun k hk => absurd hk (Nat.not_lt_zero k)⟩) (S.new z1 oq) L _ rfl X6
  refine ⟨t, st1 _ ?_, b1⟩
  show Steps p.tables e below (T1.setTop { method := m, pc := pc + 3, locals := ls, stack := .ref T.heap.size :: rest, locked := none }) _
  jvm_step X₁.here [X₁.here.top, hexec, d3', Value.category]
  rw [← hq] at a1
  exact st _ a1
end VMK
