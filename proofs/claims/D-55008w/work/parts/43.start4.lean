/-! THE START, 4: what the pure law is given; from its answer to the claim's walk -/
set_option maxRecDepth 100000
set_option maxHeartbeats 1000000
def St0 (h : AH) (b L : Nat) (xs : Nat → Int32) : Prop :=
  aB h = aZ h ∧ (∀ q, aZ h ≤ q → aC h q = none) ∧ aC h b = some (.inl (0, L, .inl (fun j => if j < L then xs j else 0))) ∧ b < aZ h ∧
  (∀ i r, conS[i]? = some r → ∃ a v, aE h (100 + i) = some a ∧ aC h a = some (.inr (19, [.ref v, .int 0, .int r.2.2.2.1, .int r.2.2.2.2])) ∧ aC h v = some (.inl (3, r.2.2.1.length, .inl (fun j => r.2.2.1.getD j 0)))) ∧
  (∃ a, aE h 0 = some a ∧ aC h a = some (.inl (4, 0, .inr (.inr (.inr (.inr (fun _ => none))))))) ∧
  (∃ a, aE h 1 = some a ∧ aC h a = some (.inl (3, 100, .inl (fun j => if j < 100 then dg1 j else 0)))) ∧
  (∃ a, aE h 2 = some a ∧ aC h a = some (.inl (3, 100, .inl (fun j => if j < 100 then dg10 j else 0)))) ∧
  (∃ a, aE h 99 = some a)
theorem Wc.lt' {D : va_G} {h : AH} {s : State} {H : Heap} (w : Wc D h s H) {a : Nat} {e : AE} (he : aC h a = some e) : a < aZ h := w.lt he
theorem dig_at {D : va_G} {s : State} {args : Array Value} (n : String) (f : Nat → Int32) (hg : ∀ c ∈ FL, c.before args s = true) (h : (∀ c ∈ dgS n f, c ∈ FL) ∧ Cond.exactly (.static "java/lang/Integer" n "[B") "[B" ∈ FL) (hf : ∀ j, j < 100 → fits .byte (.int (f j)) = true) :
    ∃ v, (Term.static "java/lang/Integer" n "[B").eval args s none [] s = some (.ref v) ∧ atE D s.heap.size s s.heap v (.inl (3, 100, .inl (fun j => if j < 100 then f j else 0))) := by
  refine arr_at (D := D) (k := 3) (c := .inl (fun j => if j < 100 then f j else 0)) (by decide) (hg _ (h.1 _ (List.mem_append_left _ (by simp [tyA])))) (hg _ h.2) (hg _ (h.1 _ (List.mem_append_left _ (show _ ∈ ([_, Cond.eq (.length (.static "java/lang/Integer" n "[B")) (.int 100)] : List Cond) from List.mem_cons_of_mem _ List.mem_cons_self)))) (fun j hj => ?_) (fun j hj => ⟨?_, fun y h => by cases h⟩)
  · show _ = some (Value.int (if j < 100 then f j else 0))
    rw [if_pos hj]
    exact va_eqt (hg _ (h.1 _ (List.mem_append_right _ (List.mem_map.mpr ⟨j, List.mem_range.mpr hj, rfl⟩))))
  · show fits .byte (Value.int (if j < 100 then f j else 0)) = true
    rw [if_pos hj]; exact hf j hj
theorem dg_fits : (List.range 100).all (fun j => fits .byte (.int (dg1 j)) && fits .byte (.int (dg10 j))) = true := by decide +kernel
theorem st0_of {D : va_G} {s : State} {b L mi : Nat} {xs : Nat → Int32} (hL : L < 2 ^ 31) (hK : va_K D vwCl [] s) (hg : ∀ c ∈ FL, c.before #[Value.ref b] s = true) (hX : va_X b L xs s s.heap) (hbl : b < s.heap.size) : St0 (h00 D s (envE #[Value.ref b] s mi)) b L xs := by
  have hd : ∀ j, j < 100 → fits .byte (.int (dg1 j)) = true ∧ fits .byte (.int (dg10 j)) = true := fun j hj => by
    have := List.all_eq_true.mp dg_fits j (List.mem_range.mpr hj)
    simpa only [Bool.and_eq_true] using this
  refine ⟨rfl, fun q hq => ?_, ?_, hbl, fun i r hr => ?_, ?_, ?_, ?_, ⟨mi, rfl⟩⟩
  · cases hc : aC (h00 D s (envE #[Value.ref b] s mi)) q with
    | none => rfl
    | some e => exact absurd (h00_W.lt hc) (Nat.not_lt.mpr hq)
  · refine h00_at hK ?_ ⟨hL, Or.inl rfl, fun j hj => if_neg (Nat.not_lt.mpr hj)⟩
    obtain ⟨scr, x1, x2, x3, x4, x5⟩ := hX
    refine ⟨scr, x1, fun h => absurd rfl h, x2, x3, ?_, ⟨Nat.le_of_eq x4.symm, by rw [x4] <;> rfl⟩, fun j hj => ?_, fun j hj => ⟨rfl, fun y h => by cases h⟩⟩
    · cases hv : scr.vm.isStatics with
      | false => rfl
      | true => exact absurd hv (by have := x2.1; cases h9 : scr.vm <;> simp_all [VmData.isStatics])
    · rw [x5 j hj]
      show some (Value.int (xs j)) = some (.int (if j < L then xs j else 0))
      rw [if_pos hj]
  · have hm := List.mem_of_getElem? hr
    obtain ⟨a, v, e1, e2, e3⟩ := str_at hK hm (fun c hc => hg c ((fl_S r hm).1 c hc)) (hg _ (fl_S r hm).2)
    refine ⟨a, v, ?_, h00_at hK e2 rfl, h00_at hK e3 ⟨?_, Or.inr rfl, fun j hj => ?_⟩⟩
    · show envE #[Value.ref b] s mi (100 + i) = _
      rw [envE_t (by omega) (trm_S (r := r) (by rw [Nat.add_sub_cancel_left]; exact hr) (by omega))]
      exact evR_v e1
    · have := List.all_eq_true.mp con_ok r hm
      simp only [Bool.and_eq_true, decide_eq_true_eq] at this
      exact this.1
    · show r.2.2.1.getD j 0 = 0
      rw [List.getD_eq_getElem?_getD, List.getElem?_eq_none hj]; rfl
  · obtain ⟨v, e1, e2⟩ := arr_at (D := D) (k := 4) (n := 0) (c := .inr (.inr (.inr (.inr (fun _ => none))))) (by decide) (hg _ fl_E.1) (hg _ fl_E.2.1) (hg _ fl_E.2.2.1) (fun j hj => absurd hj (Nat.not_lt_zero j)) (fun j hj => absurd hj (Nat.not_lt_zero j))
    refine ⟨v, ?_, h00_at hK e2 ⟨by decide, rfl, fun _ _ => rfl⟩⟩
    show envE #[Value.ref b] s mi 0 = _
    rw [envE_t (by decide) (show trmE 0 = some (.static "java/util/ArrayList" "DEFAULTCAPACITY_EMPTY_ELEMENTDATA" "[Ljava/lang/Object;") from rfl)]
    exact evR_v e1
  · obtain ⟨v, e1, e2⟩ := dig_at (D := D) "DigitOnes" dg1 hg fl_dg1 (fun j hj => (hd j hj).1)
    refine ⟨v, ?_, h00_at hK e2 ⟨by decide, Or.inr rfl, fun j hj => if_neg (Nat.not_lt.mpr hj)⟩⟩
    show envE #[Value.ref b] s mi 1 = _
    rw [envE_t (by decide) (show trmE 1 = some (.static "java/lang/Integer" "DigitOnes" "[B") from rfl)]
    exact evR_v e1
  · obtain ⟨v, e1, e2⟩ := dig_at (D := D) "DigitTens" dg10 hg fl_dg10 (fun j hj => (hd j hj).2)
    refine ⟨v, ?_, h00_at hK e2 ⟨by decide, Or.inr rfl, fun j hj => if_neg (Nat.not_lt.mpr hj)⟩⟩
    show envE #[Value.ref b] s mi 2 = _
    rw [envE_t (by decide) (show trmE 2 = some (.static "java/lang/Integer" "DigitTens" "[B") from rfl)]
    exact evR_v e1
