/-! PURE LAW: a workshop's picture in the heap -/
set_option maxRecDepth 100000
set_option maxHeartbeats 1000000
def oB (b : WB) : List Value := [.int (nI (bRep b)), .int (nI (b01 (bHalf b))), .int (nI (bWear b))]
def oIk (i : WI) : List Value := [.int (nI (iCol i)), .int (nI (iSha i)), .int (nI (iGra i))]
def oRl (r : WR) : List Value := [.int (nI (rBlk r)), .int (nI (rBat r)), .int (nI (rCol r)), .int (nI (rSha r)), .int (nI (rLen r)), .int (nI (rUsed r)), .int (nI (b01 (rBack r)))]
def oDr (d : WD) : List Value := [.int (nI (dRol d)), .int (nI (dBeg d)), .int (nI (dSha d)), .int (nI (dWas d))]
def isB (h : AH) (a : Nat) (b : WB) : Prop := aC h a = some (.inr (7, oB b))
def isIk (h : AH) (a : Nat) (i : WI) : Prop := aC h a = some (.inr (8, oIk i))
def isRl (h : AH) (a : Nat) (r : WR) : Prop := aC h a = some (.inr (9, oRl r))
def isDr (h : AH) (a : Nat) (d : WD) : Prop := aC h a = some (.inr (10, oDr d))
/-- two lists, place by place -/
def FA {α : Type} (P : Nat → Nat → α → Prop) (xs : List Nat) (vs : List α) : Prop := xs.length = vs.length ∧ ∀ i x v, xs[i]? = some x → vs[i]? = some v → P i x v
theorem FA.get {α : Type} {P : Nat → Nat → α → Prop} {xs : List Nat} {vs : List α} (f : FA P xs vs) {i : Nat} (hi : i < vs.length) : ∃ x v, xs[i]? = some x ∧ vs[i]? = some v ∧ P i x v := by
  have hi2 : i < xs.length := by rw [f.1]; exact hi
  exact ⟨_, _, List.getElem?_eq_getElem hi2, List.getElem?_eq_getElem hi, f.2 i _ _ (List.getElem?_eq_getElem hi2) (List.getElem?_eq_getElem hi)⟩
theorem FA.mono {α : Type} {P Q : Nat → Nat → α → Prop} {xs : List Nat} {vs : List α} (f : FA P xs vs) (h : ∀ i x v, i < vs.length → P i x v → Q i x v) : FA Q xs vs :=
  ⟨f.1, fun i x v h1 h2 => h i x v (List.getElem?_eq_some_iff.mp h2).1 (f.2 i x v h1 h2)⟩
theorem FA.nil {α : Type} {P : Nat → Nat → α → Prop} : FA P [] ([] : List α) := ⟨rfl, fun i x v h _ => by simp at h⟩
theorem FA.app {α : Type} {P : Nat → Nat → α → Prop} {xs : List Nat} {vs : List α} (f : FA P xs vs) {x : Nat} {v : α} (h : P vs.length x v) : FA P (xs ++ [x]) (vs ++ [v]) := by
  refine ⟨by rw [List.length_append, List.length_append, f.1]; rfl, fun i y u h1 h2 => ?_⟩
  by_cases hi : i < vs.length
  · rw [List.getElem?_append_left (by rw [f.1]; exact hi)] at h1
    rw [List.getElem?_append_left hi] at h2
    exact f.2 i y u h1 h2
  · have hl := (List.getElem?_eq_some_iff.mp h2).1
    rw [List.length_append, List.length_singleton] at hl
    have hi2 : i = vs.length := by omega
    subst hi2
    rw [List.getElem?_append_right (by rw [f.1]; exact Nat.le_refl _), f.1, Nat.sub_self] at h1
    rw [List.getElem?_append_right (Nat.le_refl _), Nat.sub_self] at h2
    cases h1; cases h2; exact h
theorem FA.set {α : Type} {P : Nat → Nat → α → Prop} {xs : List Nat} {vs : List α} (f : FA P xs vs) {i x : Nat} {v : α} (h : P i x v) : FA P (xs.set i x) (vs.set i v) := by
  refine ⟨by rw [List.length_set, List.length_set, f.1], fun j y u h1 h2 => ?_⟩
  by_cases hj : j = i
  · subst hj
    have hl1 : j < xs.length := by have := (List.getElem?_eq_some_iff.mp h1).1; rwa [List.length_set] at this
    have hl2 : j < vs.length := by rw [← f.1]; exact hl1
    rw [List.getElem?_set_self hl1] at h1
    rw [List.getElem?_set_self hl2] at h2
    cases h1; cases h2; exact h
  · rw [List.getElem?_set_ne (Ne.symm hj)] at h1 h2
    exact f.2 j y u h1 h2
theorem FA.dropLast {α : Type} {P : Nat → Nat → α → Prop} {xs : List Nat} {vs : List α} (f : FA P xs vs) : FA P xs.dropLast vs.dropLast := by
  refine ⟨by rw [List.length_dropLast, List.length_dropLast, f.1], fun i x v h1 h2 => ?_⟩
  rw [List.getElem?_dropLast] at h1 h2
  split at h1
  · split at h2
    · exact f.2 i x v h1 h2
    · cases h2
  · cases h1
/-- a room -/
def isM (T : Nat → Nat) (h : AH) (i a : Nat) (m : WM) : Prop := ∃ (ld : Nat) (xd : List Nat), aB h ≤ a ∧ T a = 4 + i ∧ aC h a = some (.inr (4, [.int (nI (mHei m)), .int (nI (mNee m)), .ref ld, .int (nI (mWas m)), .int (nI (mStr m))])) ∧ AL T (4 + i) h ld xd ∧ FA (fun _ => isDr h) xd (mDro m)
/-- a workshop, its own cells not below N -/
def WSh (N : Nat) (h : AH) (w : Nat) (S : WS) (xm : List Nat) : Prop := ∃ (T : Nat → Nat) (lb li lr lm : Nat) (xb xi xr : List Nat),
  (∀ q, q < N → T q = 999) ∧ aB h ≤ w ∧ aC h w = some (.inr (1, [.ref lb, .ref li, .ref lr, .ref lm])) ∧ AL T 0 h lb xb ∧ AL T 1 h li xi ∧ AL T 2 h lr xr ∧ AL T 3 h lm xm ∧
  FA (fun _ => isB h) xb (wsB S) ∧ FA (fun _ => isIk h) xi (wsI S) ∧ FA (fun _ => isRl h) xr (wsR S) ∧ FA (isM T h) xm (wsM S) ∧ (wsM S).length ≤ 90
/-- cells of one class stay where only lists of a tag, or cells of another kind, are written -/
theorem keep_obj {P : Nat → Prop} {h h' : AH} (w : WF h) (x : Ex P h h') {a ci : Nat} {fs : List Value} (c : aC h a = some (.inr (ci, fs))) (hp : P a → False) : aC h' a = some (.inr (ci, fs)) := x.at w c hp
theorem listP_obj {T : Nat → Nat} {t : Nat} {h : AH} {a ci : Nat} {fs : List Value} (c : aC h a = some (.inr (ci, fs))) (hci : ci ≠ 16) : ¬ listP T t h a := by
  rintro ⟨-, -, ⟨fs', e⟩ | ⟨n, f, -, e⟩⟩
  · rw [c] at e; cases e; exact hci rfl
  · rw [c] at e; cases e
theorem listP_tag {T : Nat → Nat} {t t' : Nat} {h : AH} {q : Nat} (hq : listP T t h q) (hne : t ≠ t') : ¬ listP T t' h q := fun z => hne (hq.2.1.symm.trans z.2.1)
theorem listP_env {T : Nat → Nat} {t : Nat} {h : AH} {e0 : Nat} (E : EnvL h) (he : aE h 0 = some e0) : ¬ listP T t h e0 := by
  obtain ⟨-, e1, h1, h2, h3⟩ := E
  rw [he] at h1; cases h1
  exact fun z => Nat.not_lt.mpr z.1 h2
/-- all of a workshop stays where its cells are not written -/
theorem WSh.keep {N : Nat} {P : Nat → Prop} {h h' : AH} {w : Nat} {S : WS} {xm : List Nat} (wf : WF h) (E : EnvL h) (W : WSh N h w S xm) (x : Ex P h h') (hP : ∀ q, q < aZ h → ¬ P q) : WSh N h' w S xm := by
  obtain ⟨T, lb, li, lr, lm, xb, xi, xr, hT, hw, c, a0, a1, a2, a3, f0, f1, f2, f3, f4⟩ := W
  have hE : ∀ e0, aE h 0 = some e0 → ¬ P e0 := fun e0 he => by
    obtain ⟨-, e1, h1, h2, h3⟩ := E
    rw [he] at h1; cases h1
    exact hP e0 (wf.lt h3)
  have ka : ∀ {t l xs}, AL T t h l xs → AL T t h' l xs := fun a => a.keep wf x (fun _ _ => rfl) (fun q hq hp => absurd hp (hP q hq)) hE
  have ko : ∀ {a ci fs}, aC h a = some (.inr (ci, fs)) → aC h' a = some (.inr (ci, fs)) := fun c => x.at wf c (hP _ (wf.lt c))
  refine ⟨T, lb, li, lr, lm, xb, xi, xr, hT, by rw [x.1]; exact hw, ko c, ka a0, ka a1, ka a2, ka a3, f0.mono (fun _ _ _ _ z => ko z), f1.mono (fun _ _ _ _ z => ko z), f2.mono (fun _ _ _ _ z => ko z), f3.mono (fun i a m _ z => ?_), f4⟩
  obtain ⟨ld, xd, z1, z2, z3, z4, z5⟩ := z
  exact ⟨ld, xd, by rw [x.1]; exact z1, z2, ko z3, ka z4, z5.mono (fun _ _ _ _ z => ko z)⟩
theorem WSh.low {N M : Nat} {h : AH} {w : Nat} {S : WS} {xm : List Nat} (W : WSh N h w S xm) (hM : M ≤ N) : WSh M h w S xm := by
  obtain ⟨T, lb, li, lr, lm, xb, xi, xr, hT, r⟩ := W
  exact ⟨T, lb, li, lr, lm, xb, xi, xr, fun q hq => hT q (Nat.lt_of_lt_of_le hq hM), r⟩
