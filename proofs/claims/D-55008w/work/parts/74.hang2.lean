/-! PURE LAW: a drop is put into a room -/
set_option maxRecDepth 100000
set_option maxHeartbeats 1000000
section HH
variable {N : Nat} {h h' : AH} {w lb li lr lm : Nat} {S : WS} {xm : List Nat}
theorem wM_addDrop {i a ld d wst : Nat} {xd : List Nat} {v : WD} (wf : WF h) (E : EnvL h) (hN : N ≤ aZ h) (W : WSh N h w S xm) (hi : xm[i]? = some a) (V : RmV h a (gM S i) ld xd) (hd : isDr h d v) (hlen : (mDro (gM S i)).length < 60) :
    ∃ h1, f_J2_add ld d h = some (1, h1) ∧ aB h1 = aB h ∧ aB h ≤ a ∧ WF h1 ∧ aC h1 a = some (.inr (4, [.int (nI (mHei (gM S i))), .int (nI (mNee (gM S i))), .ref ld, .int (nI (mWas (gM S i))), .int (nI (mStr (gM S i)))])) ∧
      WSh N (aUp h1 a (.inr (4, [.int (nI (mHei (gM S i))), .int (nI (mNee (gM S i))), .ref ld, .int (nI wst), .int (nI (mStr (gM S i)))]))) w (wsB S, wsI S, wsR S, (wsM S).set i (mHei (gM S i), mNee (gM S i), mDro (gM S i) ++ [v], wst, mStr (gM S i))) xm ∧
      Ex (fun q => N ≤ q) h (aUp h1 a (.inr (4, [.int (nI (mHei (gM S i))), .int (nI (mNee (gM S i))), .ref ld, .int (nI wst), .int (nI (mStr (gM S i)))]))) ∧
      Co 1 100 h (aUp h1 a (.inr (4, [.int (nI (mHei (gM S i))), .int (nI (mNee (gM S i))), .ref ld, .int (nI wst), .int (nI (mStr (gM S i)))]))) ∧
      (∀ {b ci fs}, ci ≠ 16 → ci ≠ 4 → aC h b = some (.inr (ci, fs)) → aC (aUp h1 a (.inr (4, [.int (nI (mHei (gM S i))), .int (nI (mNee (gM S i))), .ref ld, .int (nI wst), .int (nI (mStr (gM S i)))]))) b = some (.inr (ci, fs))) := by
  obtain ⟨T, lb, li, lr, lm, xb, xi, xr, hT, hw, c, a0, a1, a2, a3, f0, f1, f2, f3, f4⟩ := W
  have hl : i < (wsM S).length := by rw [← f3.1]; exact (List.getElem?_eq_some_iff.mp hi).1
  obtain ⟨y, u, hy, hu, hyv⟩ := f3.get hl
  cases hi.symm.trans hy
  have hgu : gM S i = u := by unfold gM; rw [List.getD_eq_getElem?_getD, hu]; rfl
  rw [hgu] at V hlen ⊢
  obtain ⟨ld0, xd0, z1, z2, z3, z4, z5⟩ := hyv
  cases V.1.symm.trans z3
  obtain ⟨h1, e1, e2, e3, e4⟩ := al_add wf E z4 (isO_eq hd) (by rw [z5.1]; exact hlen)
  have ca : aC h1 a = some (.inr (4, [.int (nI (mHei u)), .int (nI (mNee u)), .ref ld, .int (nI (mWas u)), .int (nI (mStr u))])) := kO wf e3 (by decide) z3
  have x2 := Ex.up e3.wf (e := .inr (4, [.int (nI (mHei u)), .int (nI (mNee u)), .ref ld, .int (nI wst), .int (nI (mStr u))])) ca
  have xx : Ex (roomP T (4 + i) a h) h (aUp h1 a (.inr (4, [.int (nI (mHei u)), .int (nI (mNee u)), .ref ld, .int (nI wst), .int (nI (mStr u))]))) := (e3.mono (fun q _ z => Or.inl z)).tr (x2.mono (fun q _ z => Or.inr z))
  have aN : N ≤ a := Nat.le_of_not_lt (fun z => by have := hT a z; omega)
  have a4 : AL (updT T (aZ h) (4 + i)) (4 + i) (aUp h1 a (.inr (4, [.int (nI (mHei u)), .int (nI (mNee u)), .ref ld, .int (nI wst), .int (nI (mStr u))]))) ld (xd0 ++ [d]) := by
    refine e2.keep e3.wf x2 (fun _ _ => rfl) (fun q _ hq => by subst hq; exact listP_obj ca (by decide)) (fun e0 he => fun z => ?_)
    obtain ⟨-, e9, q1, q2, q3⟩ := E
    have he : aE h 0 = some e0 := by rw [← e3.2.1]; exact he
    rw [he] at q1; cases q1
    subst z; rw [z3] at q3; cases q3
  obtain ⟨W2, k2⟩ := wM_room (m := u) (m' := (mHei u, mNee u, mDro u ++ [v], wst, mStr u)) wf E hi (up_N hN hT) hw c a0 a1 a2 a3 f0 f1 f2 f3 f4 xx up_T a4 (aC_up_self _ _ _) (by
    refine FA.app (z5.mono (fun _ _ _ _ z => ?_)) ?_
    · exact xx.at wf z (fun z9 => z9.elim (listP_obj z (by decide)) (fun z9 => by subst z9; have zz := (show aC h _ = some (.inr (10, oDr _)) from z).symm.trans z3; cases zz))
    · exact xx.at wf hd (fun z9 => z9.elim (listP_obj hd (by decide)) (fun z9 => by subst z9; have zz := (show aC h _ = some (.inr (10, oDr _)) from hd).symm.trans z3; cases zz)))
  refine ⟨h1, e1, e3.1, z1, e3.wf, ca, W2, xx.mono (fun q _ z => z.elim (fun z => Nat.le_of_not_lt (fun z9 => by have h9 := hT q z9; have := z.2.1; omega)) (fun z => by subst z; exact aN)), ?_, k2⟩
  unfold Co at e4 ⊢
  exact e4
end HH
