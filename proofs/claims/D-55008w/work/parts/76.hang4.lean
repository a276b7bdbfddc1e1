/-! PURE LAW: the act of hanging -/
set_option maxRecDepth 100000
set_option maxHeartbeats 1000000
section H4
variable {N : Nat} {h h' : AH} {w lb li lr lm a ld : Nat} {S : WS} {xm xd : List Nat}
theorem wReason_lt {m : WM} (Im : InvM S m) (ri : Nat) : (wReason S m ri).1 ≤ 9 := by
  unfold wReason
  repeat' split
  all_goals exact Nat.le_of_ble_eq_true rfl
theorem x_hang {p q : Int32} (wf : WF h) (E : EnvL h) (hN : N ≤ aZ h) (hB : aB h ≤ N) (W : WSh N h w S xm) (I : Inv S) :
    ∃ r h', f_X2_hang w p q h = some (r, h') ∧ AnsD N w (pHang S p q) r h' ∧ Ex (fun q => N ≤ q) h h' ∧ Co 6 300 h h' := by
  obtain ⟨lb, li, lr, lm, c⟩ := W.cell
  obtain ⟨X1, X2⟩ := x_room (b := p) wf W I.2.2.2.1
  obtain ⟨Y1, Y2⟩ := x_roll (b := q) wf W I.2.2.1
  unfold f_X2_hang pHang
  rw [gd_t (isC_eq c)]
  cases hi : ixO p (wsM S).length with
  | none =>
    refine ansE (by cases ixO q (wsR S).length <;> rfl) wf (ci := 22) (by decide) ?_
    rw [X2 hi, bdX_r, outX_eq (aC_new_self _ _ _) wf.1 (by decide)]
  | some i =>
    obtain ⟨a, e1, ha, ld, xd, V⟩ := X1 i hi
    rw [e1, bdX_l, gd_t (isC_eq c)]
    cases hj : ixO q (wsR S).length with
    | none =>
      refine ansE rfl wf (ci := 22) (by decide) ?_
      rw [Y2 hj, bdX_r, outX_eq (aC_new_self _ _ _) wf.1 (by decide)]
    | some j =>
      obtain ⟨b, f1, hb⟩ := Y1 j hj
      obtain ⟨i1, rfl, i2⟩ := ixO_some hi
      obtain ⟨j1, rfl, j2⟩ := ixO_some hj
      have Im := I.2.2.2.2.2.2.2 _ (gM_mem i1)
      have hr9 := wReason_lt Im j
      rw [f1, bdX_l, gd_t (isC_eq c), f_reason W V Im I hb j1, bd2_some]
      show ∃ r h', _ ∧ AnsD N w (if (wReason S (gM S i) j).1 ≠ 0 then _ else _) r h' ∧ _
      have hdet := f_detail W V Im I j1
      by_cases h0 : (wReason S (gM S i) j).1 = 0
      · rw [if_pos (by rw [h0]; rfl), if_neg (fun z => z h0)]
        obtain ⟨k, k1, k2, k3, k4⟩ := f_hang2 wf E hN hB W I ha V i1 j1
        unfold f_X2_hang_j32
        rw [gd_t (isC_eq c), hdet, bd2_some, x_all1, bdX_l, gd_t (isC_eq c), k1, bd2_some]
        exact ⟨_, _, rfl, ⟨rfl, xm, k2⟩, k3, k4.mono (by omega) (by omega)⟩
      · rw [if_neg (nI_ne0 (by omega) (by omega)), if_pos h0]
        refine ansF rfl wf ?_
        unfold f_X2_hang_j32
        rw [gd_t (isC_eq c), hdet, bd2_some, x_all0 wf, bdX_r, outX_eq (aC_new_self _ _ _) wf.1 (by decide)]
end H4
