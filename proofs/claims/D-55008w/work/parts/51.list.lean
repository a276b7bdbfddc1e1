/-! PURE LAW: frames; ArrayList -/
set_option maxRecDepth 100000
set_option maxHeartbeats 1000000
/-- h' is a later heap; old cells outside P are as they were -/
def Ex (P : Nat → Prop) (h h' : AH) : Prop := aB h' = aB h ∧ aE h' = aE h ∧ aZ h ≤ aZ h' ∧ aS h ≤ aS h' ∧ WF h' ∧ ∀ q, q < aZ h → ¬ P q → aC h' q = aC h q
theorem Ex.rf {P : Nat → Prop} {h : AH} (w : WF h) : Ex P h h := ⟨rfl, rfl, Nat.le_refl _, Nat.le_refl _, w, fun _ _ _ => rfl⟩
theorem Ex.tr {P : Nat → Prop} {h k m : AH} (a : Ex P h k) (b : Ex P k m) : Ex P h m :=
  ⟨b.1.trans a.1, b.2.1.trans a.2.1, Nat.le_trans a.2.2.1 b.2.2.1, Nat.le_trans a.2.2.2.1 b.2.2.2.1, b.2.2.2.2.1, fun q hq hp => (b.2.2.2.2.2 q (Nat.lt_of_lt_of_le hq a.2.2.1) hp).trans (a.2.2.2.2.2 q hq hp)⟩
theorem Ex.mono {P Q : Nat → Prop} {h k : AH} (a : Ex P h k) (hPQ : ∀ q, q < aZ h → P q → Q q) : Ex Q h k :=
  ⟨a.1, a.2.1, a.2.2.1, a.2.2.2.1, a.2.2.2.2.1, fun q hq hp => a.2.2.2.2.2 q hq (fun h => hp (hPQ q hq h))⟩
theorem Ex.up {h : AH} (w : WF h) {a : Nat} {e e0 : AE} (c : aC h a = some e0) : Ex (fun q => q = a) h (aUp h a e) :=
  ⟨rfl, rfl, Nat.le_refl _, Nat.le_refl _, w.up c, fun q _ hp => aC_up_ne hp⟩
theorem Ex.nw {h : AH} (w : WF h) (n : Nat) (e : AE) : Ex (fun _ => False) h (aNew h n e) :=
  ⟨rfl, rfl, Nat.le_succ _, Nat.le_add_right _ _, w.nw n e, fun q hq _ => aC_new_lt hq⟩
theorem Ex.wf {P : Nat → Prop} {h k : AH} (a : Ex P h k) : WF k := a.2.2.2.2.1
theorem Ex.at {P : Nat → Prop} {h k : AH} (a : Ex P h k) (w : WF h) {q : Nat} {e : AE} (c : aC h q = some e) (hp : ¬ P q) : aC k q = some e := (a.2.2.2.2.2 q (w.lt c) hp).trans c
/-- what it costs -/
def Co (k n : Nat) (h h' : AH) : Prop := aZ h' ≤ aZ h + k ∧ aS h' ≤ aS h + n
theorem Co.rf {h : AH} : Co 0 0 h h := ⟨Nat.le_refl _, Nat.le_refl _⟩
theorem Co.tr {k n k' n' : Nat} {h h1 h2 : AH} (a : Co k n h h1) (b : Co k' n' h1 h2) : Co (k + k') (n + n') h h2 := by
  unfold Co at *; omega
theorem Co.mono {k n k' n' : Nat} {h h1 : AH} (a : Co k n h h1) (hk : k ≤ k') (hn : n ≤ n') : Co k' n' h h1 := by
  unfold Co at *; omega
theorem isO_up {h : AH} {y a : Nat} {o : Nat × List Value} (hy : isO h y = true) : isO (aUp h a (.inr o)) y = true := by
  obtain ⟨x, hx⟩ := isO_of hy
  by_cases e : y = a
  · subst e; exact isO_eq (aC_up_self h y (.inr o))
  · exact isO_eq (by rw [aC_up_ne e]; exact hx)
theorem isO_ex {P : Nat → Prop} {h k : AH} (x : Ex P h k) (w : WF h) {y : Nat} (hy : isO h y = true) (hp : ¬ P y) : isO k y = true := by
  obtain ⟨o, ho⟩ := isO_of hy
  exact isO_eq (x.at w ho hp)
/-- the environment that lists need -/
def EnvL (h : AH) : Prop := (∃ mi, aE h 99 = some mi) ∧ ∃ e0, aE h 0 = some e0 ∧ e0 < aB h ∧ aC h e0 = some (.inl (4, 0, qA (fun _ => none)))
def listP (T : Nat → Nat) (t : Nat) (h : AH) (q : Nat) : Prop := aB h ≤ q ∧ T q = t ∧ ((∃ fs, aC h q = some (.inr (16, fs))) ∨ ∃ n f, 0 < n ∧ aC h q = some (.inl (4, n, qA f)))
def AL (T : Nat → Nat) (t : Nat) (h : AH) (l : Nat) (xs : List Nat) : Prop :=
  T l = t ∧ aB h ≤ l ∧ ∃ (e : Nat) (m : Int32) (cap : Nat) (f : Nat → Option Nat),
    aC h l = some (.inr (16, [.int m, .ref e, .int (nI xs.length)])) ∧ aC h e = some (.inl (4, cap, qA f)) ∧ (∀ i, i < xs.length → f i = xs[i]?) ∧ xs.length ≤ cap ∧ cap ≤ 100 ∧ (cap = 0 → aE h 0 = some e) ∧ (0 < cap → aB h ≤ e ∧ T e = t)
def updT (T : Nat → Nat) (n t : Nat) (q : Nat) : Nat := if q < n then T q else t
theorem AL.lt {T : Nat → Nat} {t : Nat} {h : AH} {l : Nat} {xs : List Nat} (w : WF h) (a : AL T t h l xs) : l < aZ h := by
  obtain ⟨-, -, e, m, cap, f, c1, -⟩ := a; exact w.lt c1
/-- another list's picture stays -/
theorem AL.keep {T T' : Nat → Nat} {P : Nat → Prop} {t : Nat} {h h' : AH} {l : Nat} {xs : List Nat} (w : WF h) (a : AL T t h l xs) (x : Ex P h h') (hT : ∀ q, q < aZ h → T' q = T q) (hP : ∀ q, q < aZ h → P q → ¬ listP T t h q) (hE : ∀ e0, aE h 0 = some e0 → ¬ P e0) : AL T' t h' l xs := by
  obtain ⟨h1, h2, e, m, cap, f, c1, c2, c3, c4, c5, c6, c7⟩ := a
  refine ⟨by rw [hT l (w.lt c1)]; exact h1, by rw [x.1]; exact h2, e, m, cap, f, ?_, ?_, c3, c4, c5, fun z => by rw [x.2.1]; exact c6 z, fun z => ⟨by rw [x.1]; exact (c7 z).1, by rw [hT e (w.lt c2)]; exact (c7 z).2⟩⟩
  · exact x.at w c1 (fun hp => hP l (w.lt c1) hp ⟨h2, h1, Or.inl ⟨_, c1⟩⟩)
  · refine x.at w c2 (fun hp => ?_)
    rcases Nat.eq_zero_or_pos cap with z | z
    · exact hE e (c6 z) hp
    · exact hP e (w.lt c2) hp ⟨(c7 z).1, (c7 z).2, Or.inr ⟨cap, f, z, c2⟩⟩
theorem al_size {T : Nat → Nat} {t : Nat} {h : AH} {l : Nat} {xs : List Nat} (a : AL T t h l xs) : f_J2_size l h = some (nI xs.length, h) := by
  obtain ⟨-, -, e, m, cap, f, c1, -⟩ := a
  unfold f_J2_size; rw [gtI_eq c1 rfl]; rfl
theorem al_isC {T : Nat → Nat} {t : Nat} {h : AH} {l : Nat} {xs : List Nat} (a : AL T t h l xs) : isC h 16 l = true := by
  obtain ⟨-, -, e, m, cap, f, c1, -⟩ := a
  exact isC_eq c1
theorem al_len {T : Nat → Nat} {t : Nat} {h : AH} {l : Nat} {xs : List Nat} (a : AL T t h l xs) : xs.length ≤ 100 := by
  obtain ⟨-, -, e, m, cap, f, c1, -, -, c4, c5, -⟩ := a
  omega
theorem al_isEmpty {T : Nat → Nat} {t : Nat} {h : AH} {l : Nat} {xs : List Nat} (a : AL T t h l xs) : f_J2_isEmpty l h = some (if xs = [] then 1 else 0, h) := by
  have hl := al_len a
  obtain ⟨-, -, e, m, cap, f, c1, -⟩ := a
  unfold f_J2_isEmpty; rw [gtI_eq c1 rfl, bd_some]
  cases xs with
  | nil => rfl
  | cons x r => rw [if_neg (nI_ne0 (n := (x :: r).length) (Nat.succ_pos _) (by omega)), if_neg (List.cons_ne_nil _ _)]
theorem ckIdx {i n : Nat} (h : AH) (hi : i < n) (hn : n < 2 ^ 31) : f_J18_checkIndex (nI i) (nI n) h = some (nI i, h) := by
  unfold f_J18_checkIndex f_J16_checkIndex_n2
  rw [if_neg (nI_pos (by omega)), if_pos (nI_lt hi hn)]; rfl
theorem al_get {T : Nat → Nat} {t : Nat} {h : AH} {l i : Nat} {xs : List Nat} (a : AL T t h l xs) {x : Nat} (hx : xs[i]? = some x) : f_J2_get l (nI i) h = some (x, h) := by
  have hl := al_len a
  have hi : i < xs.length := (List.getElem?_eq_some_iff.mp hx).1
  obtain ⟨-, -, e, m, cap, f, c1, c2, c3, c4, c5, -⟩ := a
  unfold f_J2_get
  rw [gtI_eq c1 rfl, bd_some, ckIdx h hi (by omega), bd2_some, gd_t (isC_eq c1)]
  unfold f_J2_elementData
  rw [gtR_eq c1 rfl, bd_some, ldN_eq c2 (by omega) (by omega) ((c3 i hi).trans hx)]; rfl
theorem al_set {T : Nat → Nat} {t : Nat} {h : AH} {l i y : Nat} {xs : List Nat} (w : WF h) (a : AL T t h l xs) {x : Nat} (hx : xs[i]? = some x) (hy : isO h y = true) :
    ∃ h', f_J2_set l (nI i) y h = some (x, h') ∧ AL T t h' l (xs.set i y) ∧ Ex (listP T t h) h h' ∧ Co 0 0 h h' := by
  have hl := al_len a
  have hi : i < xs.length := (List.getElem?_eq_some_iff.mp hx).1
  obtain ⟨h1, h2, e, m, cap, f, c1, c2, c3, c4, c5, c6, c7⟩ := a
  have hcap : 0 < cap := by omega
  have hne : l ≠ e := fun z => by rw [z, c2] at c1; cases c1
  refine ⟨aUp h e (.inl (4, cap, qA (va_up f i (some y)))), ?_, ⟨h1, h2, e, m, cap, va_up f i (some y), ?_, aC_up_self _ _ _, fun j hj => ?_, ?_, c5, c6, c7⟩, ?_, Co.rf⟩
  · unfold f_J2_set
    rw [gtI_eq c1 rfl, bd_some, ckIdx h hi (by omega), bd2_some, gd_t (isC_eq c1)]
    unfold f_J2_elementData
    rw [gtR_eq c1 rfl, bd_some, ldN_eq c2 (by omega) (by omega) ((c3 i hi).trans hx), bd_some, bd2_some, gtR_eq c1 rfl, bd_some, stQ_eq (v := some y) c2 (c7 hcap).1 (by omega) (by omega) hy]; rfl
  · rw [aC_up_ne hne, List.length_set]; exact c1
  · rw [List.length_set] at hj
    unfold va_up
    by_cases hji : j = i
    · subst hji; rw [if_pos rfl, List.getElem?_set_self hj]
    · rw [if_neg hji, List.getElem?_set_ne (Ne.symm hji)]; exact c3 j hj
  · rw [List.length_set]; exact c4
  · exact (Ex.up w c2).mono (fun q _ hq => by subst hq; exact ⟨(c7 hcap).1, (c7 hcap).2, Or.inr ⟨cap, f, hcap, c2⟩⟩)
theorem f_max {a b : Nat} (h : AH) (ha : a < 2 ^ 31) (hb : b < 2 ^ 31) : f_J15_max (nI a) (nI b) h = some (nI (max a b), h) := by
  unfold f_J15_max
  by_cases hab : a < b
  · rw [if_pos (nI_lt hab hb), Nat.max_eq_right (Nat.le_of_lt hab)]
  · rw [if_neg (nI_nlt (Nat.le_of_not_lt hab) ha), Nat.max_eq_left (Nat.le_of_not_lt hab)]
theorem f_min {a b : Nat} (h : AH) (ha : a < 2 ^ 31) (hb : b < 2 ^ 31) : f_J15_min (nI a) (nI b) h = some (nI (min a b), h) := by
  unfold f_J15_min
  by_cases hab : b < a
  · rw [if_pos (nI_lt hab ha), Nat.min_eq_right (Nat.le_of_lt hab)]
  · rw [if_neg (nI_nlt (Nat.le_of_not_lt hab) hb), Nat.min_eq_left (Nat.le_of_not_lt hab)]
theorem f_newLen {a b c : Nat} (h : AH) (h1 : 0 < a + max b c) (h2 : a + max b c ≤ 100000) : f_J14_newLength (nI a) (nI b) (nI c) h = some (nI (a + max b c), h) := by
  unfold f_J14_newLength
  have hm : b ≤ max b c ∧ c ≤ max b c := ⟨Nat.le_max_left _ _, Nat.le_max_right _ _⟩
  rw [f_max h (by omega) (by omega), bd2_some, nI_add, if_neg (nI_nle h1 (by omega)), if_neg]
  show ¬ nI 2147483639 < nI (a + max b c)
  exact nI_nlt (by omega) (by omega)
/-- Arrays.copyOf over an Object[] -/
theorem f_copyOf {h : AH} (w : WF h) {a n m mi : Nat} {f : Nat → Option Nat} (hE : aE h 99 = some mi) (c : aC h a = some (.inl (4, n, qA f))) (hn : n ≤ 60000) (hm : m ≤ 60000) :
    f_J8_copyOf_2 a (nI m) h = some (aZ h, aUp (aNew h m (.inl (4, m, zer 4))) (aZ h) (.inl (4, m, qA (va_cpy f (fun _ => none) 0 0 (min n m))))) := by
  unfold f_J8_copyOf_2
  rw [gd_t (isAr_eq c), hE, bd_some]
  unfold f_J8_copyOf_3
  rw [hE, bd_some, if_pos rfl, nwA_eq (by omega), bd2_some]
  unfold f_J8_copyOf_3_j24
  have hlt := w.lt c
  have c1 : aC (aNew h m (.inl (4, m, zer 4))) a = some (.inl (4, n, qA f)) := by rw [aC_new_lt hlt]; exact c
  have hmin : min n m ≤ n ∧ min n m ≤ m := ⟨Nat.min_le_left _ _, Nat.min_le_right _ _⟩
  have hcp := cpQ_eq (h := aNew h m (.inl (4, m, zer 4))) (sp := 0) (dp := 0) (m := min n m) c1 (aC_new_self h m (.inl (4, m, zer 4))) (by omega) (by omega) (by omega) (by omega) w.1
  have h0 : (0 : Int32) = nI 0 := rfl
  rw [aLn_eq c1, bd_some, f_min _ (by omega) (by omega), bd2_some, h0, hcp]
  rfl
