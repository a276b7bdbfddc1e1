/-! PURE LAW: hanging -/
set_option maxRecDepth 100000
set_option maxHeartbeats 1000000
section H3
variable {N : Nat} {h h' : AH} {w lb li lr lm a ld : Nat} {S : WS} {xm xd : List Nat}
/-- a roll is hung in a room, unasked -/
theorem f_hang2 {i ri : Nat} (wf : WF h) (E : EnvL h) (hN : N ≤ aZ h) (hB : aB h ≤ N) (W : WSh N h w S xm) (I : Inv S) (hi : xm[i]? = some a) (V : RmV h a (gM S i) ld xd) (him : i < (wsM S).length) (hri : ri < (wsR S).length) :
    ∃ h', f_X2_hang_2 w a (nI ri) h = some (nI (wWaste S (gM S i) (gR S ri)), h') ∧ WSh N h' w (wHang S i ri) xm ∧ Ex (fun q => N ≤ q) h h' ∧ Co 3 120 h h' := by
  obtain ⟨lb, li, lr, lm, c⟩ := W.cell
  have Im := I.2.2.2.2.2.2.2 _ (gM_mem him)
  have Ir := I.2.2.2.2.2.2.1 _ (gR_mem hri)
  obtain ⟨q, g1, hq⟩ := wR_get W c hri
  obtain ⟨x, e1, e2⟩ := f_bw W V Im I hq Ir
  obtain ⟨b, g3, hb⟩ := wB_get W c Ir.1
  have Ib := I.2.2.2.2.1 _ (gB_mem Ir.1)
  have hWl := wWaste_lt (m := gM S i) I Ir
  have hUl : rUsed (gR S ri) ≤ 1000 := Nat.le_trans Ir.2.2.2.2.2.2 Ir.2.2.2.2.2.1
  have hlen : (mDro (gM S i)).length ≤ 30 := Nat.le_trans Im.2.2.2.2.1 Im.2.2.2.1
  unfold f_X2_hang_2
  rw [gtR_eq c rfl, bd_some, gd_t (wR_size W c).2, g1, bd2_some, gd_t (isC_eq hq), gtI_eq hq rfl, bd_some, gtR_eq V.1 rfl, bd_some, gd_t (rv_size V).2, (rv_size V).1, bd2_some, gd_t (isC_eq c), e1, bd2_some, gd_t (isC_eq c), e2, bd2_some, gtR_eq c rfl, bd_some, gtI_eq hq rfl, bd_some, gd_t (wB_size W c).2, g3, bd2_some, gd_t (isC_eq hb), gtI_eq hq rfl, bd_some, gd_t (isC_eq hb), nI_add, f_within hb (by have := Ib.1; omega) (by have := Ib.2.1; omega) (by omega), bd2_some, gtR_eq V.1 rfl, bd_some]
  generalize hWv : wWaste S (gM S i) (gR S ri) = wv at *
  generalize hBv : (rUsed (gR S ri) + wv) % bRep (gB S (rBlk (gR S ri))) = bv at *
  unfold nwX
  obtain ⟨y1, y2, y3, y4, y5, y6, y7, y8⟩ := newO wf E W (n := 4) (ci := 10) (fs := fsX12) rfl
  rw [bd2_some, gtI_eq (y8 hq) rfl, bd_some, mk_D wf, bd2_some]
  obtain ⟨z1, z2, z3, z4, z5, z6, z7, z8⟩ := newO wf E W (n := 4) (ci := 10) (fs := [.int (nI ri), .int (nI bv), .int (nI (rSha (gR S ri))), .int (nI wv)]) rfl
  generalize aNew h 4 (.inr (10, [.int (nI ri), .int (nI bv), .int (nI (rSha (gR S ri))), .int (nI wv)])) = k at *
  have hd : isDr k (aZ h) (ri, bv, rSha (gR S ri), wv) := z5
  have Vk : RmV k a (gM S i) ld xd := by
    obtain ⟨v1, v2, T9, t9, v3⟩ := V
    exact ⟨z8 v1, v2.mono (fun _ _ _ _ z => z8 z), T9, t9, v3.keep wf z1 (fun _ _ => rfl) (fun _ _ z => z.elim) (fun _ _ z => z)⟩
  obtain ⟨h1, m1, m2, m3, m4, m5, m6, m7, m8, m9⟩ := wM_addDrop (wst := mWas (gM S i) + wv) z4 z3 (by omega) z2 hi Vk hd (by omega)
  have hqk := z8 hq
  rw [gd_t (rv_size Vk).2, m1, bd2_some, gtI_eq m5 rfl, bd_some, nI_add, stF_eq m5 (by rw [m2]; exact m3) (Nat.le_of_ble_eq_true rfl), bd_some]
  simp only [List.set_cons_zero, List.set_cons_succ]
  have hZ1 := m7.2.2.1
  have ck := m9 (by decide) (by decide) (z8 c)
  have hq2 : isRl _ q (gR S ri) := m9 (by decide) (by decide) hqk
  have ca2 := aC_up_self h1 a (.inr (4, [.int (nI (mHei (gM S i))), .int (nI (mNee (gM S i))), .ref ld, .int (nI (mWas (gM S i) + wv)), .int (nI (mStr (gM S i)))]))
  have E2 := z3.exN z4 (by rw [z1.1]; exact hB) m7
  have hB2 : aB (aUp h1 a (.inr (4, [.int (nI (mHei (gM S i))), .int (nI (mNee (gM S i))), .ref ld, .int (nI (mWas (gM S i) + wv)), .int (nI (mStr (gM S i)))]))) ≤ N := by rw [m7.1, z1.1]; exact hB
  generalize aUp h1 a (.inr (4, [.int (nI (mHei (gM S i))), .int (nI (mNee (gM S i))), .ref ld, .int (nI (mWas (gM S i) + wv)), .int (nI (mStr (gM S i)))])) = k2 at *
  rw [gtR_eq ck rfl, bd_some, gtI_eq ca2 rfl, bd_some, gd_t (isC_eq hq2)]
  unfold f_X10_cut nwX
  obtain ⟨u1, u2, u3, u4, u5, u6, u7, u8⟩ := newO m7.wf E2 m6 (n := 7) (ci := 9) (fs := fsX10) rfl
  have hq3 := u8 hq2
  rw [bd2_some, gtI_eq hq3 rfl, bd_some, gtI_eq hq3 rfl, bd_some, gtI_eq hq3 rfl, bd_some, gtI_eq hq3 rfl, bd_some, gtI_eq hq3 rfl, bd_some, gtI_eq hq3 rfl, bd_some, gtI_eq hq3 rfl, bd_some, nI_add, nI_add, mk_R m7.wf, bd2_some, bd2_some]
  obtain ⟨s1, s2, s3, s4, s5, s6, s7, s8⟩ := newO m7.wf E2 m6 (n := 7) (ci := 9) (fs := [.int (nI (rBlk (gR S ri))), .int (nI (rBat (gR S ri))), .int (nI (rCol (gR S ri))), .int (nI (rSha (gR S ri))), .int (nI (rLen (gR S ri))), .int (nI (rUsed (gR S ri) + (wv + mHei (gM S i)))), .int (nI (b01 (rBack (gR S ri))))]) rfl
  generalize aNew k2 7 (.inr (9, [.int (nI (rBlk (gR S ri))), .int (nI (rBat (gR S ri))), .int (nI (rCol (gR S ri))), .int (nI (rSha (gR S ri))), .int (nI (rLen (gR S ri))), .int (nI (rUsed (gR S ri) + (wv + mHei (gM S i)))), .int (nI (b01 (rBack (gR S ri))))])) = k3 at *
  have hnr : isRl k3 (aZ k2) (rBlk (gR S ri), rBat (gR S ri), rCol (gR S ri), rSha (gR S ri), rLen (gR S ri), rUsed (gR S ri) + (wv + mHei (gM S i)), rBack (gR S ri)) := s5
  have c3 := s8 ck
  obtain ⟨x9, k4, n2, n3, n4, n5, n6, n7⟩ := wR_set s4 s3 (by omega) s2 c3 (i := ri) hri hnr
  have hx9 := n7 (by decide) n3
  rw [gd_t (wR_size s2 c3).2, n2, bd2_some, gd_t (isC_eq hx9)]
  refine ⟨k4, rfl, ?_, (((z1.mono (fun _ _ z => z.elim)).tr m7).tr (s1.mono (fun _ _ z => z.elim))).tr n5, ?_⟩
  · unfold wHang; rw [hWv, hBv]; exact n4
  · unfold Co at m8 n6 ⊢; omega
end H3
