/-! PURE LAW: stripping -/
set_option maxRecDepth 100000
set_option maxHeartbeats 1000000
section ST
variable {N : Nat} {h h' : AH} {w lb li lr lm a ld : Nat} {S : WS} {xm xd : List Nat}
theorem wM_dropLast {i a ld st : Nat} {xd : List Nat} (wf : WF h) (E : EnvL h) (hN : N ≤ aZ h) (W : WSh N h w S xm) (hi : xm[i]? = some a) (V : RmV h a (gM S i) ld xd) (hne : mDro (gM S i) ≠ []) :
    ∃ d h1, f_J2_remove ld (nI ((mDro (gM S i)).length - 1)) h = some (d, h1) ∧ isDr h1 d (gD0 (gM S i) ((mDro (gM S i)).length - 1)) ∧ aB h1 = aB h ∧ aB h ≤ a ∧ aC h1 a = some (.inr (4, [.int (nI (mHei (gM S i))), .int (nI (mNee (gM S i))), .ref ld, .int (nI (mWas (gM S i))), .int (nI (mStr (gM S i)))])) ∧
      WSh N (aUp h1 a (.inr (4, [.int (nI (mHei (gM S i))), .int (nI (mNee (gM S i))), .ref ld, .int (nI (mWas (gM S i))), .int (nI st)]))) w (wsB S, wsI S, wsR S, (wsM S).set i (mHei (gM S i), mNee (gM S i), (mDro (gM S i)).dropLast, mWas (gM S i), st)) xm ∧
      Ex (fun q => N ≤ q) h (aUp h1 a (.inr (4, [.int (nI (mHei (gM S i))), .int (nI (mNee (gM S i))), .ref ld, .int (nI (mWas (gM S i))), .int (nI st)]))) ∧
      Co 0 0 h (aUp h1 a (.inr (4, [.int (nI (mHei (gM S i))), .int (nI (mNee (gM S i))), .ref ld, .int (nI (mWas (gM S i))), .int (nI st)]))) := by
  obtain ⟨T, lb, li, lr, lm, xb, xi, xr, hT, hw, c, a0, a1, a2, a3, f0, f1, f2, f3, f4⟩ := W
  have hl : i < (wsM S).length := by rw [← f3.1]; exact (List.getElem?_eq_some_iff.mp hi).1
  obtain ⟨y, u, hy, hu, hyv⟩ := f3.get hl
  cases hi.symm.trans hy
  have hgu : gM S i = u := by unfold gM; rw [List.getD_eq_getElem?_getD, hu]; rfl
  rw [hgu] at V hne ⊢
  obtain ⟨ld0, xd0, z1, z2, z3, z4, z5⟩ := hyv
  cases V.1.symm.trans z3
  have hlen : 0 < (mDro u).length := List.length_pos_iff.mpr hne
  have hxne : xd0 ≠ [] := fun z => by rw [z] at z5; have := z5.1; simp at this; omega
  obtain ⟨d, v, hd1, hd2, hd3⟩ := z5.get (i := (mDro u).length - 1) (by omega)
  have hgd : gD0 u ((mDro u).length - 1) = v := by unfold gD0; rw [List.getD_eq_getElem?_getD, hd2]; rfl
  have hxl : xd0 = xd0.dropLast ++ [d] := by
    have h9 := List.dropLast_concat_getLast hxne
    have hlast : xd0.getLast hxne = d := by
      rw [List.getLast_eq_getElem]
      have h8 : xd0[xd0.length - 1]? = some d := by rw [z5.1]; exact hd1
      rw [List.getElem?_eq_getElem (by have := z5.1; omega)] at h8
      exact Option.some.inj h8
    rw [← hlast]; exact h9.symm
  have hdl : xd0.dropLast.length = (mDro u).length - 1 := by rw [List.length_dropLast, z5.1]
  obtain ⟨h1, e1, e2, e3, e4⟩ := al_removeLast wf (xs := xd0.dropLast) (y := d) (by rw [← hxl]; exact z4)
  rw [hdl] at e1
  have ca : aC h1 a = some (.inr (4, [.int (nI (mHei u)), .int (nI (mNee u)), .ref ld, .int (nI (mWas u)), .int (nI (mStr u))])) := kO wf e3 (by decide) z3
  have x2 := Ex.up e3.wf (e := .inr (4, [.int (nI (mHei u)), .int (nI (mNee u)), .ref ld, .int (nI (mWas u)), .int (nI st)])) ca
  have xx : Ex (roomP T (4 + i) a h) h (aUp h1 a (.inr (4, [.int (nI (mHei u)), .int (nI (mNee u)), .ref ld, .int (nI (mWas u)), .int (nI st)]))) := (e3.mono (fun q _ z => Or.inl z)).tr (x2.mono (fun q _ z => Or.inr z))
  have aN : N ≤ a := Nat.le_of_not_lt (fun z => by have := hT a z; omega)
  have a4 : AL T (4 + i) (aUp h1 a (.inr (4, [.int (nI (mHei u)), .int (nI (mNee u)), .ref ld, .int (nI (mWas u)), .int (nI st)]))) ld xd0.dropLast := by
    refine e2.keep e3.wf x2 (fun _ _ => rfl) (fun q _ hq => by subst hq; exact listP_obj ca (by decide)) (fun e0 he => fun z => ?_)
    obtain ⟨-, e9, q1, q2, q3⟩ := E
    have he : aE h 0 = some e0 := by rw [← e3.2.1]; exact he
    rw [he] at q1; cases q1
    subst z; rw [z3] at q3; cases q3
  obtain ⟨W2, k2⟩ := wM_room (m := u) (m' := (mHei u, mNee u, (mDro u).dropLast, mWas u, st)) wf E hi hT hw c a0 a1 a2 a3 f0 f1 f2 f3 f4 xx (fun _ _ => rfl) a4 (aC_up_self _ _ _) (by
    refine FA.dropLast (z5.mono (fun _ _ _ _ z => ?_))
    exact xx.at wf z (fun z9 => z9.elim (listP_obj z (by decide)) (fun z9 => by subst z9; have zz := (show aC h _ = some (.inr (10, oDr _)) from z).symm.trans z3; cases zz)))
  exact ⟨d, h1, e1, by rw [hgd]; exact kO wf e3 (by decide) hd3, e3.1, z1, ca, W2, xx.mono (fun q _ z => z.elim (fun z => Nat.le_of_not_lt (fun z9 => by have h9 := hT q z9; have := z.2.1; omega)) (fun z => by subst z; exact aN)), e4⟩
theorem x_strip {p : Int32} (wf : WF h) (E : EnvL h) (hN : N ≤ aZ h) (hB : aB h ≤ N) (W : WSh N h w S xm) (I : Inv S) :
    ∃ r h', f_X2_strip w p h = some (r, h') ∧ AnsD N w (pStrip S p) r h' ∧ Ex (fun q => N ≤ q) h h' ∧ Co 6 300 h h' := by
  obtain ⟨lb, li, lr, lm, c⟩ := W.cell
  obtain ⟨X1, X2⟩ := x_room (b := p) wf W I.2.2.2.1
  unfold f_X2_strip pStrip
  rw [gd_t (isC_eq c)]
  cases hi : ixO p (wsM S).length with
  | none =>
    refine ansE rfl wf (ci := 22) (by decide) ?_
    rw [X2 hi, bdX_r, outX_eq (aC_new_self _ _ _) wf.1 (by decide)]
  | some i =>
    obtain ⟨a, e1, ha, ld, xd, V⟩ := X1 i hi
    show ∃ r h', _ ∧ AnsD N w (if mDro (gM S i) = [] then _ else _) r h' ∧ _
    rw [e1, bdX_l, gtR_eq V.1 rfl, bd_some, gd_t (rv_size V).2, rv_empty V, bd2_some]
    by_cases he : mDro (gM S i) = []
    · rw [if_pos he, if_neg (show ¬ (1 : Int32) = 0 by decide), if_pos he]
      refine ansF rfl wf ?_
      unfold f_X2_strip_j23
      rw [x_all0 wf, bdX_r, outX_eq (aC_new_self _ _ _) wf.1 (by decide)]; rfl
    · rw [if_neg he, if_pos rfl, if_neg he]
      have hlen : 0 < (mDro (gM S i)).length := List.length_pos_iff.mpr he
      obtain ⟨d, h1, m1, m2, m3, m4, m5, m6, m7, m8⟩ := wM_dropLast (st := mStr (gM S i) + 1) wf E hN W ha V he
      unfold f_X2_strip_j23
      rw [x_all1, bdX_l, gtR_eq V.1 rfl, bd_some, bd_some, gd_t (rv_size V).2, (rv_size V).1, bd2_some, gd_t (rv_size V).2, show (1 : Int32) = nI 1 from rfl, nI_sub hlen, m1, bd2_some, gd_t (isC_eq m2), gtI_eq m5 rfl, bd_some, nI_add, stF_eq m5 (by rw [m3]; exact m4) (Nat.le_of_ble_eq_true rfl), bd_some]
      simp only [List.set_cons_zero, List.set_cons_succ]
      have hda : d ≠ a := fun z => by subst z; have zz := (show aC h1 _ = some (.inr (10, oDr _)) from m2).symm.trans m5; cases zz
      rw [gtI_eq (h := aUp h1 a _) (by rw [aC_up_ne hda]; exact m2) rfl, bd_some]
      exact ⟨_, _, rfl, ⟨rfl, xm, m6⟩, m7, m8.mono (by omega) (by omega)⟩
end ST
