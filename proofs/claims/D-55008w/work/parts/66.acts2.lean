/-! PURE LAW: carve, ink, mix, print -/
set_option maxRecDepth 100000
set_option maxHeartbeats 1000000
section AC2
variable {N : Nat} {h h' : AH} {w lb li lr lm : Nat} {S : WS} {xm : List Nat}
/-- a new object beside a workshop -/
theorem newO {n ci : Nat} {fs : List Value} (wf : WF h) (E : EnvL h) (W : WSh N h w S xm) {k : AH} (hk : aNew h n (.inr (ci, fs)) = k) :
    Ex (fun _ => False) h k ∧ WSh N k w S xm ∧ EnvL k ∧ WF k ∧ aC k (aZ h) = some (.inr (ci, fs)) ∧ aZ k = aZ h + 1 ∧ aS k = aS h + n ∧ ∀ {b e}, aC h b = some e → aC k b = some e := by
  subst hk
  have x1 := (Ex.nw wf n (.inr (ci, fs))).mono (Q := fun _ => False) (fun _ _ z => z)
  exact ⟨x1, W.keep wf E x1 (fun _ _ z => z), E.ex wf x1 (fun _ z => z.elim), x1.wf, aC_new_self _ _ _, rfl, rfl, fun c => x1.at wf c (fun z => z)⟩
theorem EnvL.exN {h k : AH} {N : Nat} (E : EnvL h) (wf : WF h) (hB : aB h ≤ N) (x : Ex (fun q => N ≤ q) h k) : EnvL k := E.ex wf x (fun _ z => Nat.le_trans hB z)
theorem x_carve {b : Int32} (wf : WF h) (E : EnvL h) (hN : N ≤ aZ h) (hB : aB h ≤ N) (W : WSh N h w S xm) (I : Inv S) :
    ∃ r h', f_X2_carve w b h = some (r, h') ∧ AnsD N w (pCarve S b) r h' ∧ Ex (fun q => N ≤ q) h h' ∧ Co 6 300 h h' := by
  obtain ⟨lb, li, lr, lm, c⟩ := W.cell
  obtain ⟨X1, X2⟩ := x_block (b := b) wf W I.1
  unfold f_X2_carve pCarve
  rw [gd_t (isC_eq c)]
  cases hi : ixO b (wsB S).length with
  | none =>
    refine ansE rfl wf (by decide) ?_
    rw [X2 hi, bdX_r, outX_eq (aC_new_self _ _ _) wf.1 (by decide)]
  | some i =>
    obtain ⟨a, e1, ha⟩ := X1 i hi
    obtain ⟨i1, rfl, i2⟩ := ixO_some hi
    rw [e1, bdX_l, gtR_eq c rfl, bd_some, gd_t (isC_eq ha)]
    unfold f_X8_carved nwX
    obtain ⟨y1, y2, y3, y4, y5, y6, y7, y8⟩ := newO wf E W (k := _) (n := 3) (ci := 7) (fs := fsX8) rfl
    have ha1 := y8 ha
    rw [bd2_some, gtI_eq ha1 rfl, bd_some, gtI_eq ha1 rfl, bd_some, show (0 : Int32) = nI 0 from rfl, mk_B wf, bd2_some, bd2_some]
    obtain ⟨z1, z2, z3, z4, z5, z6, z7, z8⟩ := newO wf E W (n := 3) (ci := 7) (fs := [.int (nI (bRep (gB S i))), .int (nI (b01 (bHalf (gB S i)))), .int (nI 0)]) rfl
    generalize aNew h 3 (.inr (7, [.int (nI (bRep (gB S i))), .int (nI (b01 (bHalf (gB S i)))), .int (nI 0)])) = k at *
    have hnb : isB k (aZ h) (bRep (gB S i), bHalf (gB S i), 0) := z5
    obtain ⟨x9, k2, e2, e3, e4, e5, e6, e7⟩ := wB_set z4 z3 (by omega) z2 (z8 c) i1 hnb
    have hx9 := e7 (by decide) e3
    rw [gd_t (wB_size z2 (z8 c)).2, e2, bd2_some, gd_t (isC_eq hx9), gtI_eq hx9 rfl, bd_some]
    refine ⟨_, _, rfl, ⟨rfl, xm, e4⟩, (z1.mono (fun _ _ z => z.elim)).tr e5, ?_⟩
    unfold Co at e6 ⊢; omega
theorem x_addInk {co sh gr : Int32} (wf : WF h) (E : EnvL h) (hN : N ≤ aZ h) (hB : aB h ≤ N) (W : WSh N h w S xm) (I : Inv S) :
    ∃ r h', f_X2_addInk w co sh gr h = some (r, h') ∧ AnsD N w (pInk S co sh gr) r h' ∧ Ex (fun q => N ≤ q) h h' ∧ Co 6 300 h h' := by
  obtain ⟨lb, li, lr, lm, c⟩ := W.cell
  obtain ⟨hs, hc⟩ := wI_size W c
  have hl := I.2.1
  have bad : ∀ {S0 : Int32}, S0 = 0 → ((co < 0 ∨ 5 < co) ∨ (sh < 0 ∨ 9 < sh) ∨ (gr < 1 ∨ 999 < gr)) → ∃ r h', f_X2_addInk_j35 w co sh gr S0 h = some (r, h') ∧ AnsD N w (pInk S co sh gr) r h' ∧ Ex (fun q => N ≤ q) h h' ∧ Co 6 300 h h' := by
    intro S0 h0 hb
    subst h0
    refine ansE (by unfold pInk; rw [if_pos hb]; rfl) wf (ci := 21) (by decide) ?_
    unfold f_X2_addInk_j35
    rw [x_req0 wf, bdX_r, outX_eq (aC_new_self _ _ _) wf.1 (by decide)]
  unfold f_X2_addInk
  rw [f_inRange, bd2_some]
  by_cases h1 : co < 0 ∨ 5 < co
  · rw [if_pos h1, if_pos rfl]; exact bad rfl (Or.inl h1)
  · rw [if_neg h1, if_neg (show ¬ (1 : Int32) = 0 by decide), f_inRange, bd2_some]
    by_cases h2 : sh < 0 ∨ 9 < sh
    · rw [if_pos h2, if_pos rfl]; exact bad rfl (Or.inr (Or.inl h2))
    · rw [if_neg h2, if_neg (show ¬ (1 : Int32) = 0 by decide), f_inRange, bd2_some]
      by_cases h3 : gr < 1 ∨ 999 < gr
      · rw [if_pos h3, if_pos rfl]; exact bad rfl (Or.inr (Or.inr h3))
      · rw [if_neg h3, if_neg (show ¬ (1 : Int32) = 0 by decide)]
        unfold f_X2_addInk_j35 pInk
        rw [if_neg (fun z => z.elim h1 (fun z => z.elim h2 h3)), x_req1, bdX_l, gtR_eq c rfl, bd_some, gd_t hc, hs, bd2_some]
        by_cases h4 : 12 ≤ (wsI S).length
        · rw [if_pos (show (12 : Int32) ≤ nI (wsI S).length from nI_le (a := 12) h4 (by omega)), if_pos h4]
          refine ansF rfl wf ?_
          unfold f_X2_addInk_j57
          rw [x_all0 wf, bdX_r, outX_eq (aC_new_self _ _ _) wf.1 (by decide)]; rfl
        · rw [if_neg (show ¬ (12 : Int32) ≤ nI (wsI S).length from nI_ge (b := 12) (by omega) (by omega)), if_neg h4]
          unfold f_X2_addInk_j57 nwX
          rw [x_all1, bdX_l, gtR_eq c rfl, bd_some, bd2_some, mk_I wf, bd2_some]
          obtain ⟨c9, hc9, rfl⟩ := nI_of (x := co) (fun z => h1 (Or.inl z))
          obtain ⟨s9, hs9, rfl⟩ := nI_of (x := sh) (fun z => h2 (Or.inl z))
          obtain ⟨g9, hg9, rfl⟩ := nI_of (x := gr) (fun z => h3 (Or.inl (Int32.lt_of_lt_of_le z (by decide))))
          obtain ⟨z1, z2, z3, z4, z5, z6, z7, z8⟩ := newO wf E W (n := 3) (ci := 8) (fs := [.int (nI c9), .int (nI s9), .int (nI g9)]) rfl
          generalize aNew h 3 (.inr (8, [.int (nI c9), .int (nI s9), .int (nI g9)])) = k at *
          have ha : isIk k (aZ h) (c9, s9, g9) := z5
          obtain ⟨k2, e1, e2, e3, e4, e5⟩ := wI_add z4 z3 (by omega) z2 (z8 c) (by omega) ha
          have c2 := e5 (by decide) (z8 c)
          obtain ⟨hs2, hc2⟩ := wI_size e2 c2
          rw [gd_t (wI_size z2 (z8 c)).2, e1, bd2_some, gtR_eq c2 rfl, bd_some, gd_t hc2, hs2, bd2_some]
          refine ⟨_, _, rfl, ⟨?_, xm, ?_⟩, (z1.mono (fun _ _ z => z.elim)).tr e3, ?_⟩
          · show Sum.inl (nI (wsI S ++ [(c9, s9, g9)]).length - 1) = Sum.inl (nI (wsI S).length)
            rw [List.length_append]; exact congrArg Sum.inl (nI_pred _)
          · rw [nI_clamp hc9, nI_clamp hs9, nI_clamp hg9]; exact e2
          · unfold Co at e4 ⊢; omega
end AC2
