/-! PURE LAW: a workshop's lists read and written -/
set_option maxRecDepth 100000
set_option maxHeartbeats 1000000
section KP
variable {T T' : Nat → Nat} {t N : Nat} {h h' : AH} {w lb li lr lm : Nat} {S : WS} {xm : List Nat}
theorem kA (wf : WF h) (E : EnvL h) (x : Ex (listP T t h) h h') (hT : ∀ q, q < aZ h → T' q = T q) {t' l : Nat} {xs : List Nat} (ht : t ≠ t') (a : AL T t' h l xs) : AL T' t' h' l xs :=
  a.keep wf x hT (fun q _ hq => listP_tag hq ht) (fun e0 he => listP_env E he)
theorem kO (wf : WF h) (x : Ex (listP T t h) h h') {a ci : Nat} {fs : List Value} (hci : ci ≠ 16) (c : aC h a = some (.inr (ci, fs))) : aC h' a = some (.inr (ci, fs)) := x.at wf c (listP_obj c hci)
theorem kRm (wf : WF h) (E : EnvL h) (x : Ex (listP T t h) h h') (hT : ∀ q, q < aZ h → T' q = T q) {i a : Nat} {m : WM} (ht : t ≠ 4 + i) (z : isM T h i a m) : isM T' h' i a m := by
  obtain ⟨ld, xd, z1, z2, z3, z4, z5⟩ := z
  exact ⟨ld, xd, by rw [x.1]; exact z1, by rw [hT a (wf.lt z3)]; exact z2, kO wf x (by decide) z3, kA wf E x hT ht z4, z5.mono (fun _ _ _ _ z => kO wf x (by decide) z)⟩
theorem up_N {T : Nat → Nat} (hN : N ≤ aZ h) (hT : ∀ q, q < N → T q = 999) : ∀ q, q < N → updT T (aZ h) t q = 999 := fun q hq => by rw [updT_lt (Nat.lt_of_lt_of_le hq hN)]; exact hT q hq
theorem up_T {T : Nat → Nat} : ∀ q, q < aZ h → updT T (aZ h) t q = T q := fun _ hq => updT_lt hq
theorem exN {T : Nat → Nat} (hT : ∀ q, q < N → T q = 999) (ht : t ≠ 999) (x : Ex (listP T t h) h h') : Ex (fun q => N ≤ q) h h' :=
  x.mono (fun q _ hq => Nat.le_of_not_lt (fun z => ht (hq.2.1.symm.trans (hT q z))))
theorem WSh.cell (W : WSh N h w S xm) : ∃ lb li lr lm, aC h w = some (.inr (1, [.ref lb, .ref li, .ref lr, .ref lm])) := by
  obtain ⟨T, lb, li, lr, lm, xb, xi, xr, hT, hw, c, -⟩ := W
  exact ⟨lb, li, lr, lm, c⟩
/-! list 0 -/
theorem wB_size (W : WSh N h w S xm) (c : aC h w = some (.inr (1, [.ref lb, .ref li, .ref lr, .ref lm]))) : f_J2_size lb h = some (nI (wsB S).length, h) ∧ isC h 16 lb = true := by
  obtain ⟨T, lb', li', lr', lm', xb, xi, xr, hT, hw, c', a0, a1, a2, a3, f0, f1, f2, f3, f4⟩ := W
  cases c.symm.trans c'
  exact ⟨by rw [al_size a0, f0.1], al_isC a0⟩
theorem wB_get (W : WSh N h w S xm) (c : aC h w = some (.inr (1, [.ref lb, .ref li, .ref lr, .ref lm]))) {i : Nat} (hi : i < (wsB S).length) : ∃ a, f_J2_get lb (nI i) h = some (a, h) ∧ isB h a (gB S i) := by
  obtain ⟨T, lb', li', lr', lm', xb, xi, xr, hT, hw, c', a0, a1, a2, a3, f0, f1, f2, f3, f4⟩ := W
  cases c.symm.trans c'
  obtain ⟨x, v, h1, h2, h3⟩ := f0.get hi
  have hv : gB S i = v := by unfold gB; rw [List.getD_eq_getElem?_getD, h2]; rfl
  exact ⟨x, al_get a0 h1, by rw [hv]; exact h3⟩
theorem wB_set (wf : WF h) (E : EnvL h) (hN : N ≤ aZ h) (W : WSh N h w S xm) (c : aC h w = some (.inr (1, [.ref lb, .ref li, .ref lr, .ref lm]))) {i a : Nat} {v : WB} (hi : i < (wsB S).length) (ha : isB h a v) :
    ∃ x h', f_J2_set lb (nI i) a h = some (x, h') ∧ isB h x (gB S i) ∧ WSh N h' w ((wsB S).set i v, wsI S, wsR S, wsM S) xm ∧ Ex (fun q => N ≤ q) h h' ∧ Co 0 0 h h' ∧ (∀ {b ci fs}, ci ≠ 16 → aC h b = some (.inr (ci, fs)) → aC h' b = some (.inr (ci, fs))) := by
  obtain ⟨T, lb', li', lr', lm', xb, xi, xr, hT, hw, c', a0, a1, a2, a3, f0, f1, f2, f3, f4⟩ := W
  cases c.symm.trans c'
  obtain ⟨x, v0, h1, h2, h3⟩ := f0.get hi
  have hv : gB S i = v0 := by unfold gB; rw [List.getD_eq_getElem?_getD, h2]; rfl
  obtain ⟨h', e1, e2, e3, e4⟩ := al_set wf a0 h1 (isO_eq ha)
  have hT' : ∀ q, q < aZ h → T q = T q := fun _ _ => rfl
  exact ⟨x, h', e1, by rw [hv]; exact h3, ⟨T, lb, li, lr, lm, _, xi, xr, hT, by rw [e3.1]; exact hw, kO wf e3 (by decide) c, e2, kA wf E e3 hT' (by decide) a1, kA wf E e3 hT' (by decide) a2, kA wf E e3 hT' (by decide) a3, (f0.mono (fun _ _ _ _ z => kO wf e3 (by decide) z)).set (kO wf e3 (by decide) ha), f1.mono (fun _ _ _ _ z => kO wf e3 (by decide) z), f2.mono (fun _ _ _ _ z => kO wf e3 (by decide) z), f3.mono (fun j _ _ _ z => kRm wf E e3 hT' (by omega) z), f4⟩, exN hT (by decide) e3, e4, fun hci cb => kO wf e3 hci cb⟩
theorem wB_add (wf : WF h) (E : EnvL h) (hN : N ≤ aZ h) (W : WSh N h w S xm) (c : aC h w = some (.inr (1, [.ref lb, .ref li, .ref lr, .ref lm]))) {a : Nat} {v : WB} (hl : (wsB S).length < 60) (ha : isB h a v) :
    ∃ h', f_J2_add lb a h = some (1, h') ∧ WSh N h' w (wsB S ++ [v], wsI S, wsR S, wsM S) xm ∧ Ex (fun q => N ≤ q) h h' ∧ Co 1 100 h h' ∧ (∀ {b ci fs}, ci ≠ 16 → aC h b = some (.inr (ci, fs)) → aC h' b = some (.inr (ci, fs))) := by
  obtain ⟨T, lb', li', lr', lm', xb, xi, xr, hT, hw, c', a0, a1, a2, a3, f0, f1, f2, f3, f4⟩ := W
  cases c.symm.trans c'
  obtain ⟨h', e1, e2, e3, e4⟩ := al_add wf E a0 (isO_eq ha) (by rw [f0.1]; exact hl)
  exact ⟨h', e1, ⟨updT T (aZ h) 0, lb, li, lr, lm, _, xi, xr, up_N hN hT, by rw [e3.1]; exact hw, kO wf e3 (by decide) c, e2, kA wf E e3 up_T (by decide) a1, kA wf E e3 up_T (by decide) a2, kA wf E e3 up_T (by decide) a3, (f0.mono (fun _ _ _ _ z => kO wf e3 (by decide) z)).app (kO wf e3 (by decide) ha), f1.mono (fun _ _ _ _ z => kO wf e3 (by decide) z), f2.mono (fun _ _ _ _ z => kO wf e3 (by decide) z), f3.mono (fun j _ _ _ z => kRm wf E e3 up_T (by omega) z), f4⟩, exN hT (by decide) e3, e4, fun hci cb => kO wf e3 hci cb⟩
/-! list 1 -/
theorem wI_size (W : WSh N h w S xm) (c : aC h w = some (.inr (1, [.ref lb, .ref li, .ref lr, .ref lm]))) : f_J2_size li h = some (nI (wsI S).length, h) ∧ isC h 16 li = true := by
  obtain ⟨T, lb', li', lr', lm', xb, xi, xr, hT, hw, c', a0, a1, a2, a3, f0, f1, f2, f3, f4⟩ := W
  cases c.symm.trans c'
  exact ⟨by rw [al_size a1, f1.1], al_isC a1⟩
theorem wI_get (W : WSh N h w S xm) (c : aC h w = some (.inr (1, [.ref lb, .ref li, .ref lr, .ref lm]))) {i : Nat} (hi : i < (wsI S).length) : ∃ a, f_J2_get li (nI i) h = some (a, h) ∧ isIk h a (gI S i) := by
  obtain ⟨T, lb', li', lr', lm', xb, xi, xr, hT, hw, c', a0, a1, a2, a3, f0, f1, f2, f3, f4⟩ := W
  cases c.symm.trans c'
  obtain ⟨x, v, h1, h2, h3⟩ := f1.get hi
  have hv : gI S i = v := by unfold gI; rw [List.getD_eq_getElem?_getD, h2]; rfl
  exact ⟨x, al_get a1 h1, by rw [hv]; exact h3⟩
theorem wI_set (wf : WF h) (E : EnvL h) (hN : N ≤ aZ h) (W : WSh N h w S xm) (c : aC h w = some (.inr (1, [.ref lb, .ref li, .ref lr, .ref lm]))) {i a : Nat} {v : WI} (hi : i < (wsI S).length) (ha : isIk h a v) :
    ∃ x h', f_J2_set li (nI i) a h = some (x, h') ∧ isIk h x (gI S i) ∧ WSh N h' w (wsB S, (wsI S).set i v, wsR S, wsM S) xm ∧ Ex (fun q => N ≤ q) h h' ∧ Co 0 0 h h' ∧ (∀ {b ci fs}, ci ≠ 16 → aC h b = some (.inr (ci, fs)) → aC h' b = some (.inr (ci, fs))) := by
  obtain ⟨T, lb', li', lr', lm', xb, xi, xr, hT, hw, c', a0, a1, a2, a3, f0, f1, f2, f3, f4⟩ := W
  cases c.symm.trans c'
  obtain ⟨x, v0, h1, h2, h3⟩ := f1.get hi
  have hv : gI S i = v0 := by unfold gI; rw [List.getD_eq_getElem?_getD, h2]; rfl
  obtain ⟨h', e1, e2, e3, e4⟩ := al_set wf a1 h1 (isO_eq ha)
  have hT' : ∀ q, q < aZ h → T q = T q := fun _ _ => rfl
  exact ⟨x, h', e1, by rw [hv]; exact h3, ⟨T, lb, li, lr, lm, xb, _, xr, hT, by rw [e3.1]; exact hw, kO wf e3 (by decide) c, kA wf E e3 hT' (by decide) a0, e2, kA wf E e3 hT' (by decide) a2, kA wf E e3 hT' (by decide) a3, f0.mono (fun _ _ _ _ z => kO wf e3 (by decide) z), (f1.mono (fun _ _ _ _ z => kO wf e3 (by decide) z)).set (kO wf e3 (by decide) ha), f2.mono (fun _ _ _ _ z => kO wf e3 (by decide) z), f3.mono (fun j _ _ _ z => kRm wf E e3 hT' (by omega) z), f4⟩, exN hT (by decide) e3, e4, fun hci cb => kO wf e3 hci cb⟩
theorem wI_add (wf : WF h) (E : EnvL h) (hN : N ≤ aZ h) (W : WSh N h w S xm) (c : aC h w = some (.inr (1, [.ref lb, .ref li, .ref lr, .ref lm]))) {a : Nat} {v : WI} (hl : (wsI S).length < 60) (ha : isIk h a v) :
    ∃ h', f_J2_add li a h = some (1, h') ∧ WSh N h' w (wsB S, wsI S ++ [v], wsR S, wsM S) xm ∧ Ex (fun q => N ≤ q) h h' ∧ Co 1 100 h h' ∧ (∀ {b ci fs}, ci ≠ 16 → aC h b = some (.inr (ci, fs)) → aC h' b = some (.inr (ci, fs))) := by
  obtain ⟨T, lb', li', lr', lm', xb, xi, xr, hT, hw, c', a0, a1, a2, a3, f0, f1, f2, f3, f4⟩ := W
  cases c.symm.trans c'
  obtain ⟨h', e1, e2, e3, e4⟩ := al_add wf E a1 (isO_eq ha) (by rw [f1.1]; exact hl)
  exact ⟨h', e1, ⟨updT T (aZ h) 1, lb, li, lr, lm, xb, _, xr, up_N hN hT, by rw [e3.1]; exact hw, kO wf e3 (by decide) c, kA wf E e3 up_T (by decide) a0, e2, kA wf E e3 up_T (by decide) a2, kA wf E e3 up_T (by decide) a3, f0.mono (fun _ _ _ _ z => kO wf e3 (by decide) z), (f1.mono (fun _ _ _ _ z => kO wf e3 (by decide) z)).app (kO wf e3 (by decide) ha), f2.mono (fun _ _ _ _ z => kO wf e3 (by decide) z), f3.mono (fun j _ _ _ z => kRm wf E e3 up_T (by omega) z), f4⟩, exN hT (by decide) e3, e4, fun hci cb => kO wf e3 hci cb⟩
/-! list 2 -/
theorem wR_size (W : WSh N h w S xm) (c : aC h w = some (.inr (1, [.ref lb, .ref li, .ref lr, .ref lm]))) : f_J2_size lr h = some (nI (wsR S).length, h) ∧ isC h 16 lr = true := by
  obtain ⟨T, lb', li', lr', lm', xb, xi, xr, hT, hw, c', a0, a1, a2, a3, f0, f1, f2, f3, f4⟩ := W
  cases c.symm.trans c'
  exact ⟨by rw [al_size a2, f2.1], al_isC a2⟩
theorem wR_get (W : WSh N h w S xm) (c : aC h w = some (.inr (1, [.ref lb, .ref li, .ref lr, .ref lm]))) {i : Nat} (hi : i < (wsR S).length) : ∃ a, f_J2_get lr (nI i) h = some (a, h) ∧ isRl h a (gR S i) := by
  obtain ⟨T, lb', li', lr', lm', xb, xi, xr, hT, hw, c', a0, a1, a2, a3, f0, f1, f2, f3, f4⟩ := W
  cases c.symm.trans c'
  obtain ⟨x, v, h1, h2, h3⟩ := f2.get hi
  have hv : gR S i = v := by unfold gR; rw [List.getD_eq_getElem?_getD, h2]; rfl
  exact ⟨x, al_get a2 h1, by rw [hv]; exact h3⟩
theorem wR_set (wf : WF h) (E : EnvL h) (hN : N ≤ aZ h) (W : WSh N h w S xm) (c : aC h w = some (.inr (1, [.ref lb, .ref li, .ref lr, .ref lm]))) {i a : Nat} {v : WR} (hi : i < (wsR S).length) (ha : isRl h a v) :
    ∃ x h', f_J2_set lr (nI i) a h = some (x, h') ∧ isRl h x (gR S i) ∧ WSh N h' w (wsB S, wsI S, (wsR S).set i v, wsM S) xm ∧ Ex (fun q => N ≤ q) h h' ∧ Co 0 0 h h' ∧ (∀ {b ci fs}, ci ≠ 16 → aC h b = some (.inr (ci, fs)) → aC h' b = some (.inr (ci, fs))) := by
  obtain ⟨T, lb', li', lr', lm', xb, xi, xr, hT, hw, c', a0, a1, a2, a3, f0, f1, f2, f3, f4⟩ := W
  cases c.symm.trans c'
  obtain ⟨x, v0, h1, h2, h3⟩ := f2.get hi
  have hv : gR S i = v0 := by unfold gR; rw [List.getD_eq_getElem?_getD, h2]; rfl
  obtain ⟨h', e1, e2, e3, e4⟩ := al_set wf a2 h1 (isO_eq ha)
  have hT' : ∀ q, q < aZ h → T q = T q := fun _ _ => rfl
  exact ⟨x, h', e1, by rw [hv]; exact h3, ⟨T, lb, li, lr, lm, xb, xi, _, hT, by rw [e3.1]; exact hw, kO wf e3 (by decide) c, kA wf E e3 hT' (by decide) a0, kA wf E e3 hT' (by decide) a1, e2, kA wf E e3 hT' (by decide) a3, f0.mono (fun _ _ _ _ z => kO wf e3 (by decide) z), f1.mono (fun _ _ _ _ z => kO wf e3 (by decide) z), (f2.mono (fun _ _ _ _ z => kO wf e3 (by decide) z)).set (kO wf e3 (by decide) ha), f3.mono (fun j _ _ _ z => kRm wf E e3 hT' (by omega) z), f4⟩, exN hT (by decide) e3, e4, fun hci cb => kO wf e3 hci cb⟩
theorem wR_add (wf : WF h) (E : EnvL h) (hN : N ≤ aZ h) (W : WSh N h w S xm) (c : aC h w = some (.inr (1, [.ref lb, .ref li, .ref lr, .ref lm]))) {a : Nat} {v : WR} (hl : (wsR S).length < 60) (ha : isRl h a v) :
    ∃ h', f_J2_add lr a h = some (1, h') ∧ WSh N h' w (wsB S, wsI S, wsR S ++ [v], wsM S) xm ∧ Ex (fun q => N ≤ q) h h' ∧ Co 1 100 h h' ∧ (∀ {b ci fs}, ci ≠ 16 → aC h b = some (.inr (ci, fs)) → aC h' b = some (.inr (ci, fs))) := by
  obtain ⟨T, lb', li', lr', lm', xb, xi, xr, hT, hw, c', a0, a1, a2, a3, f0, f1, f2, f3, f4⟩ := W
  cases c.symm.trans c'
  obtain ⟨h', e1, e2, e3, e4⟩ := al_add wf E a2 (isO_eq ha) (by rw [f2.1]; exact hl)
  exact ⟨h', e1, ⟨updT T (aZ h) 2, lb, li, lr, lm, xb, xi, _, up_N hN hT, by rw [e3.1]; exact hw, kO wf e3 (by decide) c, kA wf E e3 up_T (by decide) a0, kA wf E e3 up_T (by decide) a1, e2, kA wf E e3 up_T (by decide) a3, f0.mono (fun _ _ _ _ z => kO wf e3 (by decide) z), f1.mono (fun _ _ _ _ z => kO wf e3 (by decide) z), (f2.mono (fun _ _ _ _ z => kO wf e3 (by decide) z)).app (kO wf e3 (by decide) ha), f3.mono (fun j _ _ _ z => kRm wf E e3 up_T (by omega) z), f4⟩, exN hT (by decide) e3, e4, fun hci cb => kO wf e3 hci cb⟩
end KP
