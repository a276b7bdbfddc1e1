/-! PURE LAW: the best roll -/
set_option maxRecDepth 100000
set_option maxHeartbeats 1000000
section BS
variable {N : Nat} {h h' : AH} {w a ld : Nat} {S : WS} {xm xd : List Nat} {m : WM}
def isOf (S : WS) (m : WM) (w a : Nat) (h : AH) (o k : Nat) : Prop := aC h o = some (.inr (11, [.int (nI k), .int (nI (wWaste S m (gR S k))), .int (nI (rLeft (gR S k))), .ref a, .ref w]))
theorem RmV.new {k : AH} (wf : WF h) (x : Ex (fun _ => False) h k) (V : RmV h a m ld xd) : RmV k a m ld xd := by
  obtain ⟨v1, v2, T9, t9, v3⟩ := V
  exact ⟨x.at wf v1 (fun z => z), v2.mono (fun _ _ _ _ z => x.at wf z (fun z => z)), T9, t9, v3.keep wf x (fun _ _ => rfl) (fun _ _ z => z.elim) (fun _ _ z => z)⟩
theorem mk_Of {k : Nat} (wf : WF h) (E : EnvL h) (W : WSh N h w S xm) (V : RmV h a m ld xd) (Im : InvM S m) (I : Inv S) (hk : k < (wsR S).length) :
    f_X13_init (aZ h) w (nI k) a (aNew h 5 (.inr (11, fsX13))) = some ((), aNew h 5 (.inr (11, [.int (nI k), .int (nI (wWaste S m (gR S k))), .int (nI (rLeft (gR S k))), .ref a, .ref w]))) := by
  obtain ⟨lb, li, lr, lm, c⟩ := W.cell
  have Ir := I.2.2.2.2.2.2.1 _ (gR_mem hk)
  unfold f_X13_init
  rw [stF_new wf (Nat.le_of_ble_eq_true rfl), bd_some, stF_new wf (Nat.le_of_ble_eq_true rfl), bd_some]
  simp only [List.set_cons_zero, List.set_cons_succ]
  obtain ⟨y1, y2, y3, y4, y5, y6, y7, y8⟩ := newO wf E W (n := 5) (ci := 11) (fs := [.int 0, .int 0, .int 0, .ref a, .ref w]) rfl
  obtain ⟨q, g1, hq⟩ := wR_get y2 (y8 c) hk
  rw [gtR_eq (y8 c) rfl, bd_some, gd_t (wR_size y2 (y8 c)).2, g1, bd2_some, gd_t (isC_eq hq), stF_new wf (Nat.le_of_ble_eq_true rfl), bd_some]
  simp only [List.set_cons_zero]
  obtain ⟨z1, z2, z3, z4, z5, z6, z7, z8⟩ := newO wf E W (n := 5) (ci := 11) (fs := [.int (nI k), .int 0, .int 0, .ref a, .ref w]) rfl
  have hqo : q ≠ aZ h := fun z => by subst z; have zz := (show aC _ _ = some (.inr (9, oRl _)) from hq).symm.trans y5; cases zz
  have hq2 : isRl (aNew h 5 (.inr (11, [.int (nI k), .int 0, .int 0, .ref a, .ref w]))) q (gR S k) := by
    have h1 : aC (aNew h 5 (.inr (11, [.int 0, .int 0, .int 0, .ref a, .ref w]))) q = some (.inr (9, oRl (gR S k))) := hq
    show aC (aNew h 5 (.inr (11, [.int (nI k), .int 0, .int 0, .ref a, .ref w]))) q = some (.inr (9, oRl (gR S k)))
    rw [aC_new, if_neg hqo] at h1 ⊢; exact h1
  have V2 := V.new wf z1
  obtain ⟨x, e1, e2⟩ := f_bw z2 V2 Im I hq2 Ir
  rw [gtI_eq hq2 rfl, bd_some, gtR_eq z5 rfl, bd_some, bd_some, gtR_eq V2.1 rfl, bd_some, gd_t (rv_size V2).2, (rv_size V2).1, bd2_some, gd_t (isC_eq (z8 c)), e1, bd2_some, gd_t (isC_eq (z8 c)), e2, bd2_some, stF_new wf (Nat.le_of_ble_eq_true rfl), bd_some]
  simp only [List.set_cons_zero, List.set_cons_succ]
  have hq3 : isRl (aNew h 5 (.inr (11, [.int (nI k), .int (nI (wWaste S m (gR S k))), .int 0, .ref a, .ref w]))) q (gR S k) := by
    have h1 : aC (aNew h 5 (.inr (11, [.int 0, .int 0, .int 0, .ref a, .ref w]))) q = some (.inr (9, oRl (gR S k))) := hq
    show aC (aNew h 5 (.inr (11, [.int (nI k), .int (nI (wWaste S m (gR S k))), .int 0, .ref a, .ref w]))) q = some (.inr (9, oRl (gR S k)))
    rw [aC_new, if_neg hqo] at h1 ⊢; exact h1
  rw [gd_t (isC_eq hq3), f_left hq3 Ir.2.2.2.2.2.2, bd2_some, stF_new wf (Nat.le_of_ble_eq_true rfl)]
  rfl
end BS
