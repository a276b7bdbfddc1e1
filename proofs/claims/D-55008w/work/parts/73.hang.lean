/-! PURE LAW: a room changes: its list and its own cell -/
set_option maxRecDepth 100000
set_option maxHeartbeats 1000000
section HG
variable {N : Nat} {h h' : AH} {w lb li lr lm : Nat} {S : WS} {xm : List Nat}
def roomP (T : Nat → Nat) (t a : Nat) (h : AH) (q : Nat) : Prop := listP T t h q ∨ q = a
theorem wM_room {i a ld : Nat} {T' T : Nat → Nat} {xd' : List Nat} {m m' : WM} (wf : WF h) (E : EnvL h) (hi : xm[i]? = some a)
    {xb xi xr : List Nat} (hT9 : ∀ q, q < N → T' q = 999) (hw : aB h ≤ w) (c : aC h w = some (.inr (1, [.ref lb, .ref li, .ref lr, .ref lm]))) (a0 : AL T 0 h lb xb) (a1 : AL T 1 h li xi) (a2 : AL T 2 h lr xr) (a3 : AL T 3 h lm xm)
    (f0 : FA (fun _ => isB h) xb (wsB S)) (f1 : FA (fun _ => isIk h) xi (wsI S)) (f2 : FA (fun _ => isRl h) xr (wsR S)) (f3 : FA (isM T h) xm (wsM S)) (f4 : (wsM S).length ≤ 90)
    (x : Ex (roomP T (4 + i) a h) h h') (hT' : ∀ q, q < aZ h → T' q = T q) (a4 : AL T' (4 + i) h' ld xd') (hc : aC h' a = some (.inr (4, [.int (nI (mHei m')), .int (nI (mNee m')), .ref ld, .int (nI (mWas m')), .int (nI (mStr m'))])))
    (fd : FA (fun _ => isDr h') xd' (mDro m')) : WSh N h' w (wsB S, wsI S, wsR S, (wsM S).set i m') xm ∧ (∀ {b ci fs}, ci ≠ 16 → ci ≠ 4 → aC h b = some (.inr (ci, fs)) → aC h' b = some (.inr (ci, fs))) := by
  have h5 : 4 + i ≠ 0 ∧ 4 + i ≠ 1 ∧ 4 + i ≠ 2 ∧ 4 + i ≠ 3 := by omega
  have hl : i < (wsM S).length := by rw [← f3.1]; exact (List.getElem?_eq_some_iff.mp hi).1
  obtain ⟨y, v, hy, hv, hyv⟩ := f3.get hl
  cases hi.symm.trans hy
  obtain ⟨ld0, xd0, z1, z2, z3, z4, z5⟩ := hyv
  have kA' : ∀ {t' l xs}, 4 + i ≠ t' → AL T t' h l xs → AL T' t' h' l xs := fun ht al => al.keep wf x hT' (fun q _ hq => hq.elim (fun z => listP_tag z ht) (fun z => by subst z; exact listP_obj z3 (by decide))) (fun e0 he => fun z => z.elim (listP_env E he) (fun z => by
    obtain ⟨-, e1, q1, q2, q3⟩ := E
    rw [he] at q1; cases q1
    subst z; rw [z3] at q3; cases q3))
  have kO' : ∀ {b ci fs}, ci ≠ 16 → ci ≠ 4 → aC h b = some (.inr (ci, fs)) → aC h' b = some (.inr (ci, fs)) := fun h1 h2 cb => x.at wf cb (fun z => z.elim (listP_obj cb h1) (fun z => by subst z; rw [z3] at cb; cases cb; exact h2 rfl))
  refine ⟨⟨T', lb, li, lr, lm, xb, xi, xr, hT9, by rw [x.1]; exact hw, kO' (by decide) (by decide) c, kA' h5.1 a0, kA' h5.2.1 a1, kA' h5.2.2.1 a2, kA' h5.2.2.2 a3, f0.mono (fun _ _ _ _ z => kO' (by decide) (by decide) z), f1.mono (fun _ _ _ _ z => kO' (by decide) (by decide) z), f2.mono (fun _ _ _ _ z => kO' (by decide) (by decide) z), ⟨by show xm.length = ((wsM S).set i m').length; rw [List.length_set]; exact f3.1, fun j b u g1 g2 => ?_⟩, by show ((wsM S).set i m').length ≤ 90; rw [List.length_set]; exact f4⟩, kO'⟩
  by_cases hj : j = i
  · subst hj
    cases hi.symm.trans g1
    have : u = m' := by
      have g2 : ((wsM S).set j m')[j]? = some u := g2
      rw [List.getElem?_set_self hl] at g2; cases g2; rfl
    subst this
    exact ⟨ld, xd', by rw [x.1]; exact z1, by rw [hT' a (wf.lt z3)]; exact z2, hc, a4, fd⟩
  · have g2 : ((wsM S).set i m')[j]? = some u := g2
    rw [List.getElem?_set_ne (Ne.symm hj)] at g2
    obtain ⟨ld1, xd1, y1, y2, y3, y4, y5⟩ := f3.2 j b u g1 g2
    have hba : b ≠ a := fun z => by subst z; rw [z2] at y2; omega
    exact ⟨ld1, xd1, by rw [x.1]; exact y1, by rw [hT' b (wf.lt y3)]; exact y2, x.at wf y3 (fun z => z.elim (listP_obj y3 (by decide)) hba), kA' (by omega) y4, y5.mono (fun _ _ _ _ z => kO' (by decide) (by decide) z)⟩
end HG
