/-! PURE LAW: acts on blocks and inks -/
set_option maxRecDepth 100000
set_option maxHeartbeats 1000000
/-- what an act on a draft comes to -/
def AnsD (N w : Nat) (a : WA) (r : Int32 ⊕ Nat) (h' : AH) : Prop := match a with
  | .inl p => r = .inl (nI p.1) ∧ ∃ xm', WSh N h' w p.2 xm'
  | .inr (.inl p) => ∃ q, r = .inr q ∧ aB h' ≤ q ∧ aC h' q = some (.inr (6, failC .null (nI p.1) (nI p.2)))
  | .inr (.inr ci) => ∃ q, r = .inr q ∧ isE h' ci q
section AC
variable {N : Nat} {h h' : AH} {w lb li lr lm : Nat} {S : WS} {xm : List Nat}
theorem x_block {b : Int32} (wf : WF h) (W : WSh N h w S xm) (I : (wsB S).length ≤ 6) : (∀ i, ixO b (wsB S).length = some i → ∃ a, f_X2_block w b h = some (.inl a, h) ∧ isB h a (gB S i)) ∧ (ixO b (wsB S).length = none → f_X2_block w b h = some (.inr (aZ h), aNew h 6 (.inr (22, [])))) := by
  obtain ⟨lb, li, lr, lm, c⟩ := W.cell
  obtain ⟨hs, hc⟩ := wB_size W c
  unfold f_X2_block
  rw [gtR_eq c rfl, bd_some, gd_t hc, hs, bd2_some, f_inRange, bd2_some, ix_range (by omega)]
  refine ⟨fun i hi => ?_, fun hn => ?_⟩
  · obtain ⟨i1, rfl, i2⟩ := ixO_some hi
    obtain ⟨a, ga, ha⟩ := wB_get W c i1
    refine ⟨a, ?_, ha⟩
    rw [hi, if_pos (show (some i).isSome = true from rfl), x_reqI1, bdX_l, gtR_eq c rfl, bd_some, gd_t hc, ga, bd2_some, gd_t (isC_eq ha)]
  · rw [hn, if_neg (show ¬ (none : Option Nat).isSome = true by decide), x_reqI0 wf, bdX_r, outX_eq (aC_new_self _ _ _) wf.1 (by decide)]
theorem x_ink {b : Int32} (wf : WF h) (W : WSh N h w S xm) (I : (wsI S).length ≤ 12) : (∀ i, ixO b (wsI S).length = some i → ∃ a, f_X2_ink w b h = some (.inl a, h) ∧ isIk h a (gI S i)) ∧ (ixO b (wsI S).length = none → f_X2_ink w b h = some (.inr (aZ h), aNew h 6 (.inr (22, [])))) := by
  obtain ⟨lb, li, lr, lm, c⟩ := W.cell
  obtain ⟨hs, hc⟩ := wI_size W c
  unfold f_X2_ink
  rw [gtR_eq c rfl, bd_some, gd_t hc, hs, bd2_some, f_inRange, bd2_some, ix_range (by omega)]
  refine ⟨fun i hi => ?_, fun hn => ?_⟩
  · obtain ⟨i1, rfl, i2⟩ := ixO_some hi
    obtain ⟨a, ga, ha⟩ := wI_get W c i1
    refine ⟨a, ?_, ha⟩
    rw [hi, if_pos (show (some i).isSome = true from rfl), x_reqI1, bdX_l, gtR_eq c rfl, bd_some, gd_t hc, ga, bd2_some, gd_t (isC_eq ha)]
  · rw [hn, if_neg (show ¬ (none : Option Nat).isSome = true by decide), x_reqI0 wf, bdX_r, outX_eq (aC_new_self _ _ _) wf.1 (by decide)]
theorem x_roll {b : Int32} (wf : WF h) (W : WSh N h w S xm) (I : (wsR S).length ≤ 24) : (∀ i, ixO b (wsR S).length = some i → ∃ a, f_X2_roll w b h = some (.inl a, h) ∧ isRl h a (gR S i)) ∧ (ixO b (wsR S).length = none → f_X2_roll w b h = some (.inr (aZ h), aNew h 6 (.inr (22, [])))) := by
  obtain ⟨lb, li, lr, lm, c⟩ := W.cell
  obtain ⟨hs, hc⟩ := wR_size W c
  unfold f_X2_roll
  rw [gtR_eq c rfl, bd_some, gd_t hc, hs, bd2_some, f_inRange, bd2_some, ix_range (by omega)]
  refine ⟨fun i hi => ?_, fun hn => ?_⟩
  · obtain ⟨i1, rfl, i2⟩ := ixO_some hi
    obtain ⟨a, ga, ha⟩ := wR_get W c i1
    refine ⟨a, ?_, ha⟩
    rw [hi, if_pos (show (some i).isSome = true from rfl), x_reqI1, bdX_l, gtR_eq c rfl, bd_some, gd_t hc, ga, bd2_some, gd_t (isC_eq ha)]
  · rw [hn, if_neg (show ¬ (none : Option Nat).isSome = true by decide), x_reqI0 wf, bdX_r, outX_eq (aC_new_self _ _ _) wf.1 (by decide)]
theorem x_room {b : Int32} (wf : WF h) (W : WSh N h w S xm) (I : (wsM S).length ≤ 6) : (∀ i, ixO b (wsM S).length = some i → ∃ a, f_X2_room w b h = some (.inl a, h) ∧ xm[i]? = some a ∧ ∃ ld xd, RmV h a (gM S i) ld xd) ∧ (ixO b (wsM S).length = none → f_X2_room w b h = some (.inr (aZ h), aNew h 6 (.inr (22, [])))) := by
  obtain ⟨lb, li, lr, lm, c⟩ := W.cell
  obtain ⟨hs, hc⟩ := wM_size W c
  unfold f_X2_room
  rw [gtR_eq c rfl, bd_some, gd_t hc, hs, bd2_some, f_inRange, bd2_some, ix_range (by omega)]
  refine ⟨fun i hi => ?_, fun hn => ?_⟩
  · obtain ⟨i1, rfl, i2⟩ := ixO_some hi
    have hl : i < xm.length := by rw [wM_len W]; exact i1
    obtain ⟨ga, ld, xd, V⟩ := wM_get W c (List.getElem?_eq_getElem hl)
    refine ⟨xm[i], ?_, List.getElem?_eq_getElem hl, ld, xd, V⟩
    rw [hi, if_pos (show (some i).isSome = true from rfl), x_reqI1, bdX_l, gtR_eq c rfl, bd_some, gd_t hc, ga, bd2_some, gd_t (isC_eq V.1)]
  · rw [hn, if_neg (show ¬ (none : Option Nat).isSome = true by decide), x_reqI0 wf, bdX_r, outX_eq (aC_new_self _ _ _) wf.1 (by decide)]
theorem EnvL.ex {P : Nat → Prop} {h k : AH} (E : EnvL h) (wf : WF h) (x : Ex P h k) (hP : ∀ q, P q → aB h ≤ q) : EnvL k := by
  obtain ⟨⟨mi, hmi⟩, e0, h1, h2, h3⟩ := E
  exact ⟨⟨mi, by rw [x.2.1]; exact hmi⟩, e0, by rw [x.2.1]; exact h1, by rw [x.1]; exact h2, x.at wf h3 (fun z => absurd (hP _ z) (Nat.not_le.mpr h2))⟩
/-- exceptions on the way out -/
theorem ansE {a : WA} {ci : Nat} (ha : a = .inr (.inr ci)) (wf : WF h) (hci : ci < 27) {X : Option ((Int32 ⊕ Nat) × AH)} (hX : X = some (.inr (aZ h), aNew h 6 (.inr (ci, [])))) : ∃ r h', X = some (r, h') ∧ AnsD N w a r h' ∧ Ex (fun q => N ≤ q) h h' ∧ Co 6 300 h h' := by
  subst ha
  exact ⟨_, _, hX, ⟨_, rfl, wf.1, aC_new_self _ _ _⟩, (Ex.nw wf _ _).mono (fun _ _ z => z.elim), ⟨Nat.add_le_add_left (by omega) _, Nat.add_le_add_left (by omega) _⟩⟩
theorem ansF {a : WA} {rs d : Nat} (ha : a = .inr (.inl (rs, d))) (wf : WF h) {X : Option ((Int32 ⊕ Nat) × AH)} (hX : X = some (.inr (aZ h), aNew h 8 (.inr (6, failC .null (nI rs) (nI d))))) : ∃ r h', X = some (r, h') ∧ AnsD N w a r h' ∧ Ex (fun q => N ≤ q) h h' ∧ Co 6 300 h h' := by
  subst ha
  exact ⟨_, _, hX, ⟨_, rfl, wf.1, aC_new_self _ _ _⟩, (Ex.nw wf _ _).mono (fun _ _ z => z.elim), ⟨Nat.add_le_add_left (by omega) _, Nat.add_le_add_left (by omega) _⟩⟩
theorem x_addBlock {rep : Int32} {half : Bool} (wf : WF h) (E : EnvL h) (hN : N ≤ aZ h) (hB : aB h ≤ N) (W : WSh N h w S xm) (I : Inv S) :
    ∃ r h', f_X2_addBlock w rep (nI (b01 half)) h = some (r, h') ∧ AnsD N w (pBlock S rep half) r h' ∧ Ex (fun q => N ≤ q) h h' ∧ Co 6 300 h h' := by
  obtain ⟨lb, li, lr, lm, c⟩ := W.cell
  obtain ⟨hs, hc⟩ := wB_size W c
  have hl := I.1
  unfold f_X2_addBlock pBlock
  rw [f_inRange, bd2_some]
  by_cases h1 : rep < 10 ∨ 90 < rep
  · rw [if_pos h1, if_pos h1]
    refine ansE rfl wf (by decide) ?_
    rw [x_req0 wf, bdX_r, outX_eq (aC_new_self _ _ _) wf.1 (by decide)]
  · rw [if_neg h1, if_neg h1, x_req1, bdX_l, gtR_eq c rfl, bd_some, gd_t hc, hs, bd2_some]
    by_cases h2 : 6 ≤ (wsB S).length
    · rw [if_pos (show (6 : Int32) ≤ nI (wsB S).length from nI_le (a := 6) h2 (by omega)), if_pos h2]
      refine ansF rfl wf ?_
      unfold f_X2_addBlock_j30
      rw [x_all0 wf, bdX_r, outX_eq (aC_new_self _ _ _) wf.1 (by decide)]; rfl
    · rw [if_neg (show ¬ (6 : Int32) ≤ nI (wsB S).length from nI_ge (b := 6) (by omega) (by omega)), if_neg h2]
      unfold f_X2_addBlock_j30 nwX f_X8_init
      rw [x_all1, bdX_l, gtR_eq c rfl, bd_some, bd2_some, show (0 : Int32) = nI 0 from rfl, mk_B wf, bd2_some, bd2_some]
      obtain ⟨j, hj, hrep⟩ := nI_of (x := rep) (fun z => h1 (Or.inl (Int32.lt_of_lt_of_le z (by decide))))
      subst hrep
      have x1 := (Ex.nw wf 3 (.inr (7, [.int (nI j), .int (nI (b01 half)), .int (nI 0)]))).mono (Q := fun _ => False) (fun _ _ z => z)
      generalize hk : aNew h 3 (.inr (7, [.int (nI j), .int (nI (b01 half)), .int (nI 0)])) = k at x1
      have W1 : WSh N k w S xm := W.keep wf E x1 (fun _ _ z => z)
      have E1 := E.ex wf x1 (fun _ z => z.elim)
      have c1 := x1.at wf c (fun z => z)
      have ha : isB k (aZ h) (j, half, 0) := by rw [← hk]; exact aC_new_self _ _ _
      have hkZ : aZ k = aZ h + 1 := by rw [← hk]; rfl
      have hkS : aS k = aS h + 3 := by rw [← hk]; rfl
      obtain ⟨k2, e1, e2, e3, e4, e5⟩ := wB_add x1.wf E1 (by omega) W1 c1 (by omega) ha
      have c2 := e5 (by decide) c1
      obtain ⟨hs2, hc2⟩ := wB_size e2 c2
      rw [gd_t (wB_size W1 c1).2, e1, bd2_some, gtR_eq c2 rfl, bd_some, gd_t hc2, hs2, bd2_some]
      refine ⟨_, _, rfl, ⟨?_, xm, ?_⟩, (x1.mono (fun _ _ z => z.elim)).tr e3, ?_⟩
      · show Sum.inl (nI (wsB S ++ [(j, half, 0)]).length - 1) = Sum.inl (nI (wsB S).length)
        rw [List.length_append]; exact congrArg Sum.inl (nI_pred _)
      · rw [nI_clamp hj]; exact e2
      · unfold Co at e4 ⊢; omega
end AC
