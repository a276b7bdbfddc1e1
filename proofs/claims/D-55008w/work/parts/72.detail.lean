/-! PURE LAW: detail -/
set_option maxRecDepth 100000
set_option maxHeartbeats 1000000
section DT
variable {N : Nat} {h h' : AH} {w lb li lr lm a ld : Nat} {S : WS} {xm xd : List Nat} {m : WM}
theorem f_detail {ri : Nat} (W : WSh N h w S xm) (V : RmV h a m ld xd) (Im : InvM S m) (I : Inv S) (hri : ri < (wsR S).length) :
    f_X2_detail w a (nI ri) (nI (wReason S m ri).1) h = some (nI (wReason S m ri).2, h) := by
  obtain ⟨lb, li, lr, lm, c⟩ := W.cell
  have Ir := I.2.2.2.2.2.2.1 _ (gR_mem hri)
  obtain ⟨q, g1, hq⟩ := wR_get W c hri
  obtain ⟨o, g0, gn, gs⟩ := f_first W V Im
  have hWl := wWaste_lt (m := m) I Ir
  have hLl : rLeft (gR S ri) ≤ 1000 := by unfold rLeft; have := Ir.2.2.2.2.2.1; split <;> omega
  have hHl : mHei m ≤ 400 := Im.2.1
  unfold f_X2_detail
  rw [gtR_eq c rfl, bd_some, gd_t (wR_size W c).2, g1, bd2_some, gd_t (isC_eq hq)]
  unfold wReason
  by_cases hf : (mDro m).length = mNee m
  · rw [if_pos hf, if_neg (show ¬ nI 4 = 0 by decide), if_pos (show nI 4 = 4 from rfl), gtI_eq V.1 rfl, bd_some]
  · rw [if_neg hf]
    cases hb : rBack (gR S ri) with
    | true => rw [if_pos rfl, if_neg (show ¬ nI 5 = 0 by decide), if_neg (show ¬ nI 5 = 4 by decide), if_pos (show nI 5 = 5 from rfl)]
    | false =>
      rw [if_neg (show ¬ (false = true) by decide)]
      by_cases h6 : mDro m ≠ [] ∧ rBlk (gR S (dRol (gD0 m 0))) ≠ rBlk (gR S ri)
      · obtain ⟨v, hv, hvr⟩ := gs h6.1
        rw [if_pos h6, if_neg (show ¬ nI 6 = 0 by decide), if_neg (show ¬ nI 6 = 4 by decide), if_neg (show ¬ nI 6 = 5 by decide), if_pos (show nI 6 = 6 from rfl), gd_t (isC_eq c), g0, bd2_some, hv]
        show (bd (gtI h 9 v 0) _) = _
        rw [gtI_eq hvr rfl, bd_some]
      · rw [if_neg h6]
        by_cases h7 : mDro m ≠ [] ∧ rCol (gR S (dRol (gD0 m 0))) ≠ rCol (gR S ri)
        · obtain ⟨v, hv, hvr⟩ := gs h7.1
          rw [if_pos h7, if_neg (show ¬ nI 7 = 0 by decide), if_neg (show ¬ nI 7 = 4 by decide), if_neg (show ¬ nI 7 = 5 by decide), if_neg (show ¬ nI 7 = 6 by decide), if_pos (show nI 7 = 7 from rfl), gd_t (isC_eq c), g0, bd2_some, hv]
          show (bd (gtI h 9 v 2) _) = _
          rw [gtI_eq hvr rfl, bd_some]
        · rw [if_neg h7]
          by_cases h8 : mDro m ≠ [] ∧ 1 < apart (dSha (gD0 m ((mDro m).length - 1))) (rSha (gR S ri))
          · rw [if_pos h8, if_neg (show ¬ nI 8 = 0 by decide), if_neg (show ¬ nI 8 = 4 by decide), if_neg (show ¬ nI 8 = 5 by decide), if_neg (show ¬ nI 8 = 6 by decide), if_neg (show ¬ nI 8 = 7 by decide), if_pos (show nI 8 = 8 from rfl), gd_t (isC_eq c), f_unlike V Im I hq Ir, bd2_some, if_neg h8.1]
          · rw [if_neg h8]
            by_cases h9 : rLeft (gR S ri) < wWaste S m (gR S ri) + mHei m
            · rw [if_pos h9, if_neg (show ¬ nI 9 = 0 by decide), if_neg (show ¬ nI 9 = 4 by decide), if_neg (show ¬ nI 9 = 5 by decide), if_neg (show ¬ nI 9 = 6 by decide), if_neg (show ¬ nI 9 = 7 by decide), if_neg (show ¬ nI 9 = 8 by decide), gd_t (isC_eq c), f_missing W V Im I hq Ir, bd2_some, nI_add, nI_sub (Nat.le_of_lt h9)]
            · rw [if_neg h9, if_pos (show nI 0 = 0 from rfl)]; rfl
end DT
