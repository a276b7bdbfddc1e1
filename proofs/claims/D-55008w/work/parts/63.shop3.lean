/-! PURE LAW: rooms of a workshop -/
set_option maxRecDepth 100000
set_option maxHeartbeats 1000000
section RM
variable {N : Nat} {h h' : AH} {w lb li lr lm : Nat} {S : WS} {xm : List Nat}
theorem wM_len (W : WSh N h w S xm) : xm.length = (wsM S).length := by
  obtain ⟨T, lb', li', lr', lm', xb, xi, xr, hT, hw, c', a0, a1, a2, a3, f0, f1, f2, f3, f4⟩ := W
  exact f3.1
theorem wM_size (W : WSh N h w S xm) (c : aC h w = some (.inr (1, [.ref lb, .ref li, .ref lr, .ref lm]))) : f_J2_size lm h = some (nI (wsM S).length, h) ∧ isC h 16 lm = true := by
  obtain ⟨T, lb', li', lr', lm', xb, xi, xr, hT, hw, c', a0, a1, a2, a3, f0, f1, f2, f3, f4⟩ := W
  cases c.symm.trans c'
  exact ⟨by rw [al_size a3, f3.1], al_isC a3⟩
/-- the room i at a: its cell, its list -/
def RmV (h : AH) (a : Nat) (m : WM) (ld : Nat) (xd : List Nat) : Prop := aC h a = some (.inr (4, [.int (nI (mHei m)), .int (nI (mNee m)), .ref ld, .int (nI (mWas m)), .int (nI (mStr m))])) ∧ FA (fun _ => isDr h) xd (mDro m) ∧ ∃ T t, AL T t h ld xd
theorem wM_get (W : WSh N h w S xm) (c : aC h w = some (.inr (1, [.ref lb, .ref li, .ref lr, .ref lm]))) {i a : Nat} (hi : xm[i]? = some a) : f_J2_get lm (nI i) h = some (a, h) ∧ ∃ ld xd, RmV h a (gM S i) ld xd := by
  obtain ⟨T, lb', li', lr', lm', xb, xi, xr, hT, hw, c', a0, a1, a2, a3, f0, f1, f2, f3, f4⟩ := W
  cases c.symm.trans c'
  have hl : i < (wsM S).length := by rw [← f3.1]; exact (List.getElem?_eq_some_iff.mp hi).1
  obtain ⟨x, v, h1, h2, h3⟩ := f3.get hl
  cases hi.symm.trans h1
  have hv : gM S i = v := by unfold gM; rw [List.getD_eq_getElem?_getD, h2]; rfl
  obtain ⟨ld, xd, z1, z2, z3, z4, z5⟩ := h3
  exact ⟨al_get a3 h1, ld, xd, by rw [hv]; exact ⟨z3, z5, T, _, z4⟩⟩
theorem rv_size {a ld : Nat} {m : WM} {xd : List Nat} (V : RmV h a m ld xd) : f_J2_size ld h = some (nI (mDro m).length, h) ∧ isC h 16 ld = true := by
  obtain ⟨c, f, T, t, al⟩ := V
  exact ⟨by rw [al_size al, f.1], al_isC al⟩
theorem rv_empty {a ld : Nat} {m : WM} {xd : List Nat} (V : RmV h a m ld xd) : f_J2_isEmpty ld h = some (if mDro m = [] then 1 else 0, h) := by
  obtain ⟨c, f, T, t, al⟩ := V
  rw [al_isEmpty al]
  have : (xd = []) ↔ (mDro m = []) := by rw [← List.length_eq_zero_iff, ← List.length_eq_zero_iff, f.1]
  simp only [this]
theorem rv_get {a ld j : Nat} {m : WM} {xd : List Nat} (V : RmV h a m ld xd) (hj : j < (mDro m).length) : ∃ d, f_J2_get ld (nI j) h = some (d, h) ∧ isDr h d (gD0 m j) := by
  obtain ⟨c, f, T, t, al⟩ := V
  obtain ⟨x, v, h1, h2, h3⟩ := f.get hj
  have hv : gD0 m j = v := by unfold gD0; rw [List.getD_eq_getElem?_getD, h2]; rfl
  exact ⟨x, al_get al h1, by rw [hv]; exact h3⟩
/-- another tag's list: a room's list -/
theorem tag_ne {i j : Nat} (h : i ≠ j) : 4 + i ≠ 4 + j := by omega
/-- a room's drops change -/
theorem wM_drops {i a ld : Nat} {T' : Nat → Nat} {T : Nat → Nat} {xd xd' : List Nat} {m' : WM} (wf : WF h) (E : EnvL h) (hN : N ≤ aZ h) (hi : xm[i]? = some a)
    {xb xi xr : List Nat} (hT : ∀ q, q < N → T q = 999) (hT9 : ∀ q, q < N → T' q = 999) (hw : aB h ≤ w) (c : aC h w = some (.inr (1, [.ref lb, .ref li, .ref lr, .ref lm]))) (a0 : AL T 0 h lb xb) (a1 : AL T 1 h li xi) (a2 : AL T 2 h lr xr) (a3 : AL T 3 h lm xm)
    (f0 : FA (fun _ => isB h) xb (wsB S)) (f1 : FA (fun _ => isIk h) xi (wsI S)) (f2 : FA (fun _ => isRl h) xr (wsR S)) (f3 : FA (isM T h) xm (wsM S)) (f4 : (wsM S).length ≤ 90)
    (x : Ex (listP T (4 + i) h) h h') (hT' : ∀ q, q < aZ h → T' q = T q) (a4 : AL T' (4 + i) h' ld xd') (hc : aC h a = some (.inr (4, [.int (nI (mHei m')), .int (nI (mNee m')), .ref ld, .int (nI (mWas m')), .int (nI (mStr m'))])))
    (hm : ∀ x v, xm[i]? = some x → (wsM S)[i]? = some v → aB h ≤ x ∧ T x = 4 + i) (fd : FA (fun _ => isDr h') xd' (mDro m')) : WSh N h' w (wsB S, wsI S, wsR S, (wsM S).set i m') xm := by
  have h5 : 4 + i ≠ 0 ∧ 4 + i ≠ 1 ∧ 4 + i ≠ 2 ∧ 4 + i ≠ 3 := by omega
  have hl : i < (wsM S).length := by rw [← f3.1]; exact (List.getElem?_eq_some_iff.mp hi).1
  obtain ⟨hm1, hm2⟩ := hm a _ hi (List.getElem?_eq_getElem hl)
  refine ⟨T', lb, li, lr, lm, xb, xi, xr, hT9, by rw [x.1]; exact hw, kO wf x (by decide) c, kA wf E x hT' h5.1 a0, kA wf E x hT' h5.2.1 a1, kA wf E x hT' h5.2.2.1 a2, kA wf E x hT' h5.2.2.2 a3, f0.mono (fun _ _ _ _ z => kO wf x (by decide) z), f1.mono (fun _ _ _ _ z => kO wf x (by decide) z), f2.mono (fun _ _ _ _ z => kO wf x (by decide) z), ⟨by show xm.length = ((wsM S).set i m').length; rw [List.length_set]; exact f3.1, fun j y v g1 g2 => ?_⟩, by show ((wsM S).set i m').length ≤ 90; rw [List.length_set]; exact f4⟩
  by_cases hj : j = i
  · subst hj
    cases hi.symm.trans g1
    have : v = m' := by
      have g2 : ((wsM S).set j m')[j]? = some v := g2
      rw [List.getElem?_set_self hl] at g2; cases g2; rfl
    subst this
    exact ⟨ld, xd', by rw [x.1]; exact hm1, by rw [hT' a (wf.lt hc)]; exact hm2, kO wf x (by decide) hc, a4, fd⟩
  · have g2 : ((wsM S).set i m')[j]? = some v := g2
    rw [List.getElem?_set_ne (Ne.symm hj)] at g2
    exact kRm wf E x hT' (tag_ne (Ne.symm hj)) (f3.2 j y v g1 g2)
end RM
