/-! THE START, 3: Ent, the abstract heap of the start, its cells -/
set_option maxRecDepth 100000
set_option maxHeartbeats 1000000
def evR (args : Array Value) (s : State) (t : Term) : Option Nat := match t.eval args s none [] s with | some (.ref a) => some a | _ => none
def trmE (j : Nat) : Option Term := if 100 ≤ j then (conS[j - 100]?).map tmS else (refS.find? (fun q => q.2.2.2 == j)).map (fun q => .static q.1 q.2.1 q.2.2.1)
def envE (args : Array Value) (s : State) (mi : Nat) (j : Nat) : Option Nat := if j = 99 then some mi else match trmE j with | some t => evR args s t | none => none
theorem trm_R : refS.all (fun q => decide (q.2.2.2 ≠ 99) && decide (trmE q.2.2.2 = some (.static q.1 q.2.1 q.2.2.1))) = true := by decide +kernel
theorem envE_t {args : Array Value} {s : State} {mi j : Nat} {t : Term} (h1 : j ≠ 99) (h2 : trmE j = some t) : envE args s mi j = evR args s t := by
  unfold envE; rw [if_neg h1, h2]
theorem evR_v {args : Array Value} {s : State} {t : Term} {a : Nat} (h : t.eval args s none [] s = some (.ref a)) : evR args s t = some a := by
  unfold evR; rw [h]
theorem trm_S {r : String × Nat × List Int32 × Int32 × Int32} {j : Nat} (h1 : conS[j - 100]? = some r) (h2 : 100 ≤ j) : trmE j = some (tmS r) := by
  unfold trmE; rw [if_pos h2, h1]; rfl
theorem ent0 {D : va_G} {s : State} {args : Array Value} {mi : Nat} (hts : ∀ w ∈ lw_tbl, w.before args s = true) (hg : ∀ c ∈ FL, c.before args s = true) (hK : va_K D vwCl [] s) (hmi : va_Mi "[Ljava/lang/Object;" mi s) : Ent D s.heap.size (envE args s mi) s := by
  have hA : ∀ a : Nat, a < s.heap.size → ¬ (fun q => s.heap.size ≤ q) a := fun a ha h => absurd ha (Nat.not_lt.mpr h)
  refine ⟨fun w hw a => ?_, fun w hw hk => va_Nw.of (nwk_tab hk) (hts w hw), fun q hq => ?_, va_AO.of (hts _ q190), hK, fun q hq => ?_, fun q hq => ?_, ⟨?_, ?_⟩, fun q hq => ?_, ⟨va_Dc.of (hts _ q2734), mi, rfl, hmi⟩, fun q hq => va_Nc.of (hg _ (fl_N q hq)), fun q hq => ?_⟩
  · refine word_at (State.WarmedH.refl s) (wA_good hw) (args := args) ?_
    rcases List.mem_append.mp hw with h | h
    · exact hts w (lw_all_tbl h)
    · rcases List.mem_append.mp h with h | h
      · exact hg w (fl_W w h)
      · obtain ⟨y, hy, rfl⟩ := List.mem_map.mp h
        have := List.all_eq_true.mp fl_P y hy
        simp only [Bool.and_eq_true, decide_eq_true_eq] at this
        have hc : y.cls = "java/lang/AbstractStringBuilder" := by
          have : pvL.all (fun y => decide (y.cls = "java/lang/AbstractStringBuilder")) = true := by decide +kernel
          exact of_decide_eq_true (List.all_eq_true.mp this y hy)
        exact sel_priv ⟨this.1.2, this.2⟩ (hts _ (lw_all_tbl q202)) (hts _ this.1.1.1) (hts _ this.1.1.2) (by rw [hc]; exact hts _ (lw_all_tbl q640))
  · have := List.all_eq_true.mp fl_F q hq
    simp only [Bool.and_eq_true, decide_eq_true_eq] at this
    exact va_Fw.of (hts _ this.1.1.1.1) (hts _ this.1.1.1.2) (hts _ this.1.1.2) (hts _ this.1.2) (hts _ this.2)
  · have := List.all_eq_true.mp fl_I q hq
    simp only [Bool.and_eq_true, decide_eq_true_eq] at this
    exact va_Zof (hts _ this.1) (hts _ this.2) (va_eqt (hg _ (fl_I0 q hq))) hA
  · have := List.all_eq_true.mp fl_R q hq
    simp only [Bool.and_eq_true, decide_eq_true_eq] at this
    have h2 := List.all_eq_true.mp trm_R q hq
    simp only [Bool.and_eq_true, decide_eq_true_eq] at h2
    obtain ⟨v, hv, hr⟩ := Cond.isRef_spec (hg _ (fl_R0 q hq))
    rw [envE_t h2.1 h2.2]
    have hv9 : va_rf (evR args s (.static q.1 q.2.1 q.2.2.1)) = v := by
      unfold evR; rw [hv]
      cases v <;> first | rfl | cases hr
    rw [hv9]
    exact va_Zof (hts _ this.1) (hts _ this.2) hv hA
  · exact vx_Zqof (hts _ q299) (hts _ (lw_all_tbl q88)) (hg _ (fl_R0 ("java/lang/Throwable", "UNASSIGNED_STACK", "[Ljava/lang/StackTraceElement;", 3) (by decide +kernel))) hA
  · exact vx_Zqof (hts _ q301) (hts _ (lw_all_tbl q88)) (hg _ (fl_R0 ("java/lang/Throwable", "SUPPRESSED_SENTINEL", "Ljava/util/List;", 4) (by decide +kernel))) hA
  · obtain ⟨r, h1, h2, h3, h4⟩ := fl_Q q hq
    have hm := List.mem_of_getElem? h1
    obtain ⟨a, v, e1, -, -⟩ := str_at hK hm (fun c hc => hg c ((fl_S r hm).1 c hc)) (hg _ (fl_S r hm).2)
    refine ⟨a, ?_, vk_R.of (hts _ h4) ?_⟩
    · rw [envE_t (by omega) (trm_S h1 h2)]; exact evR_v e1
    · rcases h3 with ⟨x1, x2⟩ | h3 | h3
      · rw [← x1, ← x2]; exact e1
      · obtain ⟨y, y1, y2⟩ := Cond.eq_one (hg _ h3)
        rw [y2, ← y1]; exact e1
      · obtain ⟨y, y1, y2⟩ := Cond.eq_one (hg _ h3)
        rw [y1, ← y2]; exact e1
  · have := hg _ (fl_L q hq)
    exact this
/-- cells written out so that what they say has one form -/
def canonE (e : AE) : Prop := match e with
  | .inr o => o.1 = 19
  | .inl (k, n, .inl f) => n < 2 ^ 31 ∧ (k = 0 ∨ k = 3) ∧ ∀ j, n ≤ j → f j = 0
  | .inl (k, n, .inr (.inr (.inr (.inr f)))) => n < 2 ^ 31 ∧ k = 4 ∧ ∀ j, n ≤ j → f j = none
  | .inl (_, _, _) => False
theorem sz_eq {n m : Nat} (hn : n < 2 ^ 31) (hm : m < 2 ^ 31) (h : Int32.ofNat n = Int32.ofNat m) : n = m := by
  have h1 := congrArg Int32.toInt h
  rw [Int32.toInt_ofNat_of_lt (by omega), Int32.toInt_ofNat_of_lt (by omega)] at h1
  omega
theorem arr_kind {s : State} {c : Cell} {t t' : FieldType} (h : s.isArrayOf c t) (h' : s.isArrayOf c t') : t = t' := by
  obtain ⟨-, k, hk, comp, e⟩ := h
  obtain ⟨-, k', hk', comp', e'⟩ := h'
  cases hk.symm.trans hk'
  rw [e] at e'
  cases e'
  rfl
theorem vp_list {l m : List Value} (h : l.length = m.length) (h2 : ∀ k, k < l.length → vp_V l k = vp_V m k) : l = m := by
  apply List.ext_getElem h
  intro i h3 h4
  have := h2 i h3
  simpa [vp_V, h3, h4] using this
theorem canon_arr {D : va_G} {B : Nat} {s : State} {H : Heap} {a : Nat} {x x' : Nat × vp_A} (h : atE D B s H a (.inl x)) (c : canonE (.inl x)) (h' : atE D B s H a (.inl x')) (c' : canonE (.inl x')) : x = x' := by
  obtain ⟨cell, g1, g2, g3, g4, g5, g6, g7, g8⟩ := h
  obtain ⟨cell', g1', g2', g3', g4', g5', g6', g7', g8'⟩ := h'
  cases g1.symm.trans g1'
  have ht := arr_kind g3 g3'
  obtain ⟨k, n, f⟩ := x
  obtain ⟨k', n', f'⟩ := x'
  rcases f with f | f | f | f | f
  · rcases f' with f' | f' | f' | f' | f'
    · have hk : k = k' := by
        rcases c.2.1 with rfl | rfl <;> rcases c'.2.1 with rfl | rfl <;> first | rfl | (cases ht)
      subst hk
      have hn : n = n' := sz_eq c.1 c'.1 (g6.2.symm.trans g6'.2)
      subst hn
      have : f = f' := by
        funext j
        by_cases hj : j < n
        · have := Option.some.inj ((g7 j hj).symm.trans (g7' j hj))
          simpa [elV] using this
        · rw [c.2.2 j (by omega), c'.2.2 j (by omega)]
      rw [this]
    · exact False.elim c'
    · exact False.elim c'
    · exact False.elim c'
    · have c4 : k' = 4 := c'.2.1
      subst c4
      rcases c.2.1 with rfl | rfl <;> cases ht
  · exact False.elim c
  · exact False.elim c
  · exact False.elim c
  · rcases f' with f' | f' | f' | f' | f'
    · have c4 : k = 4 := c.2.1
      subst c4
      rcases c'.2.1 with rfl | rfl <;> cases ht
    · exact False.elim c'
    · exact False.elim c'
    · exact False.elim c'
    · have hk : k = k' := c.2.1.trans c'.2.1.symm
      subst hk
      have hn : n = n' := sz_eq c.1 c'.1 (g6.2.symm.trans g6'.2)
      subst hn
      have : f = f' := by
        funext j
        by_cases hj : j < n
        · have : va_rf (f j) = va_rf (f' j) := Option.some.inj ((g7 j hj).symm.trans (g7' j hj))
          cases h1 : f j <;> cases h2 : f' j <;> rw [h1, h2] at this <;> first | rfl | (cases this; rfl) | (cases this)
        · rw [c.2.2 j (by omega), c'.2.2 j (by omega)]
      rw [this]
theorem canon_mix {D : va_G} {B : Nat} {s : State} {H : Heap} {a : Nat} (hK : va_K D vwCl [] s) {x : Nat × vp_A} {o : Nat × List Value} (h1 : atE D B s H a (.inl x)) (h2 : atE D B s H a (.inr o)) : False := by
  obtain ⟨cell, g1, -, ⟨-, k, hk, comp, ek⟩, -⟩ := h1
  obtain ⟨cell', r, e1, q1, q2, -⟩ := h2
  cases g1.symm.trans q1
  obtain ⟨-, kC, hkC, hkind⟩ := (hK.1 _ _ e1).2
  rw [q2] at hk
  cases hk.symm.trans hkC
  rw [hkind] at ek; cases ek
theorem canon_obj {D : va_G} {B : Nat} {s : State} {H : Heap} {a : Nat} {o o' : Nat × List Value} (h : atE D B s H a (.inr o)) (c : canonE (.inr o)) (h' : atE D B s H a (.inr o')) (c' : canonE (.inr o')) : o = o' := by
  obtain ⟨ci, fs⟩ := o
  obtain ⟨ci', fs'⟩ := o'
  have c1 : ci = 19 := c
  have c2 : ci' = 19 := c'
  subst c1; subst c2
  obtain ⟨cell, r, e1, q1, q2, q3, q4, q5, q6, q7, q8⟩ := h
  obtain ⟨cell', r', e1', q1', q2', q3', q4', q5', q6', q7', q8'⟩ := h'
  cases q1.symm.trans q1'
  cases e1.symm.trans e1'
  have hl : fs.length = fs'.length := q7.trans q7'.symm
  have : fs = fs' := vp_list hl (fun k hk => Option.some.inj ((q8 k (q7 ▸ hk)).symm.trans (q8' k (q7 ▸ hk))))
  rw [this]
theorem canon_uq {D : va_G} {B : Nat} {s : State} {H : Heap} {a : Nat} {e e' : AE} (hK : va_K D vwCl [] s) (h : atE D B s H a e) (c : canonE e) (h' : atE D B s H a e') (c' : canonE e') : e = e' := by
  rcases e with x | o
  · rcases e' with x' | o'
    · rw [canon_arr h c h' c']
    · exact (canon_mix hK h h').elim
  · rcases e' with x' | o'
    · exact (canon_mix hK h' h).elim
    · rw [canon_obj h c h' c']
/-- the abstract heap of the start -/
noncomputable def h00 (D : va_G) (s : State) (E : Nat → Option Nat) : AH := (fun q => @dite _ (∃ e, atE D s.heap.size s s.heap q e ∧ canonE e) (Classical.propDecidable _) (fun h => some (Classical.choose h)) (fun _ => none), s.heap.size, 0, s.heap.size, E)
theorem h00_at {D : va_G} {s : State} {E : Nat → Option Nat} (hK : va_K D vwCl [] s) {q : Nat} {e : AE} (h : atE D s.heap.size s s.heap q e) (c : canonE e) : aC (h00 D s E) q = some e := by
  have hex : ∃ e, atE D s.heap.size s s.heap q e ∧ canonE e := ⟨e, h, c⟩
  show @dite _ (∃ e, atE D s.heap.size s s.heap q e ∧ canonE e) (Classical.propDecidable _) (fun h => some (Classical.choose h)) (fun _ => none) = some e
  rw [dif_pos hex]
  have := Classical.choose_spec hex
  exact congrArg some (canon_uq hK this.1 this.2 h c)
theorem h00_W {D : va_G} {s : State} {E : Nat → Option Nat} : Wc D (h00 D s E) s s.heap := by
  refine ⟨rfl, Nat.le_refl _, fun a e he => ?_⟩
  have he : @dite _ (∃ e, atE D s.heap.size s s.heap a e ∧ canonE e) (Classical.propDecidable _) (fun h => some (Classical.choose h)) (fun _ => none) = some e := he
  by_cases hex : ∃ e, atE D s.heap.size s s.heap a e ∧ canonE e
  · rw [dif_pos hex] at he
    cases he
    exact (Classical.choose_spec hex).1
  · rw [dif_neg hex] at he; cases he
