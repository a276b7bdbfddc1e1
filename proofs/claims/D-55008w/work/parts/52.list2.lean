/-! PURE LAW: ArrayList grows -/
set_option maxRecDepth 100000
set_option maxHeartbeats 1000000
/-- grow(min): a new array, the old contents -/
theorem al_grow {h : AH} (w : WF h) (E : EnvL h) {l e n cap need : Nat} {m : Int32} {f : Nat → Option Nat} (c1 : aC h l = some (.inr (16, [.int m, .ref e, .int (nI n)]))) (c2 : aC h e = some (.inl (4, cap, qA f))) (hnc : n ≤ cap) (hc : cap ≤ 100) (h0 : cap = 0 → aE h 0 = some e) (h1 : 0 < cap → aE h 0 ≠ some e) (hb : aB h ≤ l) (hneed : cap < need) (hneed2 : need ≤ 100) :
    ∃ ncap g h', f_J2_grow l (nI need) h = some (aZ h, h') ∧ need ≤ ncap ∧ ncap ≤ max 10 (max need (cap + cap / 2)) ∧ aC h' l = some (.inr (16, [.int m, .ref (aZ h), .int (nI n)])) ∧ aC h' (aZ h) = some (.inl (4, ncap, qA g)) ∧ (∀ i, i < n → g i = f i) ∧ Ex (fun q => q = l) h h' ∧ aZ h' = aZ h + 1 ∧ aS h' = aS h + ncap := by
  obtain ⟨⟨mi, hmi⟩, e0, he0, -, ce0⟩ := E
  have hne : l ≠ e := fun z => by rw [z, c2] at c1; cases c1
  have hll := w.lt c1
  have hel := w.lt c2
  unfold f_J2_grow
  rw [gtR_eq c1 rfl, bd_some, aLn_eq c2, bd_some]
  rcases Nat.eq_zero_or_pos cap with z | z
  · subst z
    have hz : n = 0 := by omega
    subst hz
    rw [if_neg (show ¬ (0 : Int32) < nI 0 by decide), bd_some, h0 rfl, bd_some, if_pos rfl, show (10 : Int32) = nI 10 from rfl, f_max h (by omega) (by omega), bd2_some, nwA_eq (by omega), bd2_some]
    have d1 : aC (aNew h (max 10 need) (.inl (4, max 10 need, zer 4))) l = some (.inr (16, [.int m, .ref e, .int (nI 0)])) := by rw [aC_new_lt hll]; exact c1
    rw [stF_eq d1 hb (Nat.le_of_ble_eq_true rfl), bd_some]
    refine ⟨max 10 need, fun _ => none, _, rfl, Nat.le_max_right _ _, by omega, aC_up_self _ _ _, ?_, fun i hi => absurd hi (Nat.not_lt_zero i), ?_, rfl, rfl⟩
    · rw [aC_up_ne (Nat.ne_of_gt hll)]; exact aC_new_self _ _ _
    · exact ((Ex.nw w _ _).mono (fun _ _ h => h.elim)).tr (Ex.up (w.nw _ _) d1)
  · rw [if_pos (show (0 : Int32) < nI cap from nI_lt (a := 0) z (by omega))]
    unfold f_J2_grow_j20
    have hsh := nI_shr (a := cap) (by omega)
    rw [nI_sub (Nat.le_of_lt hneed), hsh, f_newLen h (by omega) (by omega), bd2_some, gtR_eq c1 rfl, bd_some, f_copyOf w hmi c2 (by omega) (by omega), bd2_some]
    generalize hN : cap + max (need - cap) (cap / 2) = N
    have hN1 : need ≤ N := by omega
    have d0 : aC (aUp (aNew h N (.inl (4, N, zer 4))) (aZ h) (.inl (4, N, qA (va_cpy f (fun _ => none) 0 0 (min cap N))))) l = some (.inr (16, [.int m, .ref e, .int (nI n)])) := by
      rw [aC_up_ne (Nat.ne_of_lt hll), aC_new_lt hll]; exact c1
    rw [stF_eq d0 hb (Nat.le_of_ble_eq_true rfl), bd_some]
    refine ⟨N, va_cpy f (fun _ => none) 0 0 (min cap N), _, rfl, hN1, by omega, aC_up_self _ _ _, ?_, fun i hi => ?_, ?_, rfl, rfl⟩
    · rw [aC_up_ne (Nat.ne_of_gt hll)]; exact aC_up_self _ _ _
    · unfold va_cpy
      rw [if_pos ⟨Nat.zero_le _, by have : i < min cap N := by omega
                                    omega⟩]
      congr 1; omega
    · have x3 : Ex (fun q => q = l) h (aUp (aNew h N (.inl (4, N, zer 4))) (aZ h) (.inl (4, N, qA (va_cpy f (fun _ => none) 0 0 (min cap N))))) := ⟨rfl, rfl, Nat.le_succ _, Nat.le_add_right _ _, (w.nw _ _).up (aC_new_self _ _ _), fun q hq hp => by rw [aC_up_ne (Nat.ne_of_lt hq), aC_new_lt hq]⟩
      exact x3.tr (Ex.up x3.wf d0)
theorem updT_lt {T : Nat → Nat} {n t q : Nat} (h : q < n) : updT T n t q = T q := if_pos h
theorem updT_ge {T : Nat → Nat} {n t q : Nat} (h : n ≤ q) : updT T n t q = t := if_neg (Nat.not_lt.mpr h)
/-- add at the end -/
theorem al_add {T : Nat → Nat} {t : Nat} {h : AH} {l y : Nat} {xs : List Nat} (w : WF h) (E : EnvL h) (a : AL T t h l xs) (hy : isO h y = true) (hlen : xs.length < 60) :
    ∃ h', f_J2_add l y h = some (1, h') ∧ AL (updT T (aZ h) t) t h' l (xs ++ [y]) ∧ Ex (listP T t h) h h' ∧ Co 1 100 h h' := by
  obtain ⟨h1, h2, e, m, cap, f, c1, c2, c3, c4, c5, c6, c7⟩ := a
  obtain ⟨⟨mi, hmi⟩, e0, he0, hle0, ce0⟩ := id E
  have hne : l ≠ e := fun z => by rw [z, c2] at c1; cases c1
  have hll := w.lt c1
  have hel := w.lt c2
  have hd0 : aC (aUp h l (.inr (16, [.int (m + 1), .ref e, .int (nI xs.length)]))) l = some (.inr (16, [.int (m + 1), .ref e, .int (nI xs.length)])) := aC_up_self _ _ _
  have w2 : WF (aUp h l (.inr (16, [.int (m + 1), .ref e, .int (nI xs.length)]))) := w.up c1
  have ce : aC (aUp h l (.inr (16, [.int (m + 1), .ref e, .int (nI xs.length)]))) e = some (.inl (4, cap, qA f)) := by rw [aC_up_ne (Ne.symm hne)]; exact c2
  have hy2 : isO (aUp h l (.inr (16, [.int (m + 1), .ref e, .int (nI xs.length)]))) y = true := isO_up hy
  have x0 : Ex (fun q => q = l) h (aUp h l (.inr (16, [.int (m + 1), .ref e, .int (nI xs.length)]))) := Ex.up w c1
  have hP : ∀ q, q < aZ h → q = l → listP T t h q := fun q _ hq => by subst hq; exact ⟨h2, h1, Or.inl ⟨_, c1⟩⟩
  have fin : ∀ {k : AH} {e9 cap9 : Nat} {g : Nat → Option Nat}, WF k → aB k = aB h → aC k l = some (.inr (16, [.int (m + 1), .ref e9, .int (nI xs.length)])) → aC k e9 = some (.inl (4, cap9, qA g)) → (∀ i, i < xs.length → g i = f i) → xs.length < cap9 → cap9 ≤ 100 → aB h ≤ e9 → isO k y = true → aZ h ≤ aZ k →
      f_J2_add_2_j11 l y e9 (nI xs.length) k = some ((), aUp (aUp k e9 (.inl (4, cap9, qA (va_up g xs.length (some y))))) l (.inr (16, [.int (m + 1), .ref e9, .int (nI (xs.length + 1))]))) ∧
      (updT T (aZ h) t e9 = t → AL (updT T (aZ h) t) t (aUp (aUp k e9 (.inl (4, cap9, qA (va_up g xs.length (some y))))) l (.inr (16, [.int (m + 1), .ref e9, .int (nI (xs.length + 1))]))) l (xs ++ [y])) := by
    intro k e9 cap9 g wk hbk d1 d2 d3 d4 d5 d6 d7 d8
    have hn9 : l ≠ e9 := fun z => by rw [z, d2] at d1; cases d1
    have d9 : aC (aUp k e9 (.inl (4, cap9, qA (va_up g xs.length (some y))))) l = some (.inr (16, [.int (m + 1), .ref e9, .int (nI xs.length)])) := by rw [aC_up_ne hn9]; exact d1
    refine ⟨?_, fun hT9 => ⟨by rw [updT_lt hll]; exact h1, by show aB k ≤ l; rw [hbk]; exact h2, e9, m + 1, cap9, va_up g xs.length (some y), ?_, ?_, ?_, ?_, d5, fun z => by omega, fun _ => ⟨by show aB k ≤ e9; rw [hbk]; exact d6, hT9⟩⟩⟩
    · unfold f_J2_add_2_j11
      rw [stQ_eq (v := some y) d2 (by rw [hbk]; exact d6) d4 (by omega) d7, bd_some, nI_1, stF_eq d9 (by show aB k ≤ l; rw [hbk]; exact h2) (Nat.le_of_ble_eq_true rfl), bd_some]; rfl
    · rw [aC_up_self, List.length_append]; rfl
    · rw [aC_up_ne (Ne.symm hn9)]; exact aC_up_self _ _ _
    · intro i hi
      rw [List.length_append, List.length_singleton] at hi
      unfold va_up
      by_cases hi2 : i = xs.length
      · subst hi2; rw [if_pos rfl, List.getElem?_append_right (Nat.le_refl _), Nat.sub_self]; rfl
      · rw [if_neg hi2, List.getElem?_append_left (by omega), d3 i (by omega)]; exact c3 i (by omega)
    · rw [List.length_append, List.length_singleton]; omega
  unfold f_J2_add
  rw [gtI_eq c1 rfl, bd_some, stF_eq c1 h2 (Nat.le_of_ble_eq_true rfl), bd_some]
  simp only [List.set_cons_zero]
  rw [gtR_eq hd0 rfl, bd_some, gtI_eq hd0 rfl, bd_some, gd_t (isC_eq hd0)]
  unfold f_J2_add_2
  rw [aLn_eq ce, bd_some]
  by_cases hfull : xs.length = cap
  · rw [if_pos (by rw [hfull]), gd_t (isC_eq hd0)]
    unfold f_J2_grow_2
    rw [gtI_eq hd0 rfl, bd_some, gd_t (isC_eq hd0), nI_1]
    have hEn : EnvL (aUp h l (.inr (16, [.int (m + 1), .ref e, .int (nI xs.length)]))) := ⟨⟨mi, hmi⟩, e0, he0, hle0, by rw [aC_up_ne (by omega)]; exact ce0⟩
    obtain ⟨ncap, g, k, g1, g2, g3, g4, g5, g6, g7, g8, g9⟩ := al_grow w2 hEn hd0 ce (by omega) c5 c6 (fun z hz => by
      have := (c7 z).1
      rw [show aE h 0 = some e from hz] at he0
      cases he0; omega) h2 (need := xs.length + 1) (by omega) (by omega)
    rw [g1, bd2_some, bd2_some]
    have hbk : aB k = aB h := g7.1
    have hye : isO k y = true := by
      by_cases hyl : y = l
      · subst hyl; exact isO_eq g4
      · exact isO_ex g7 w2 hy2 hyl
    obtain ⟨r1, r2⟩ := fin g7.wf hbk g4 g5 g6 (by omega) (by omega) w.1 hye (by rw [g8]; exact Nat.le_succ _)
    rw [r1, bd2_some]
    refine ⟨_, rfl, r2 (updT_ge (Nat.le_refl _)), ?_, ?_⟩
    · have y1 : Ex (fun q => q = l) h k := x0.tr g7
      have y2 : Ex (fun q => q = l) h (aUp k (aZ h) (.inl (4, ncap, qA (va_up g xs.length (some y))))) := ⟨y1.1, y1.2.1, y1.2.2.1, y1.2.2.2.1, g7.wf.up g5, fun q hq hp => by rw [aC_up_ne (Nat.ne_of_lt hq)]; exact y1.2.2.2.2.2 q hq hp⟩
      have hl2 : aC (aUp k (aZ h) (.inl (4, ncap, qA (va_up g xs.length (some y))))) l = some (.inr (16, [.int (m + 1), .ref (aZ h), .int (nI xs.length)])) := by
        rw [aC_up_ne (Nat.ne_of_lt hll)]; exact g4
      exact (y2.tr (Ex.up y2.wf hl2)).mono hP
    · constructor
      · show aZ k ≤ aZ h + 1; rw [g8]; exact Nat.le_refl _
      · show aS k ≤ aS h + 100; rw [g9]; show aS h + ncap ≤ _; omega
  · rw [if_neg (fun z => hfull ((nI_eq (by omega) (by omega)).mp z))]
    have hcp : 0 < cap := by omega
    obtain ⟨r1, r2⟩ := fin w2 rfl hd0 ce (fun _ _ => rfl) (by omega) c5 (c7 hcp).1 hy2 (Nat.le_refl _)
    rw [r1, bd2_some]
    refine ⟨_, rfl, r2 (by rw [updT_lt hel]; exact (c7 hcp).2), ?_, ⟨Nat.le_succ _, Nat.le_add_right _ _⟩⟩
    have hPe : ∀ q, q < aZ h → (q = l ∨ q = e) → listP T t h q := fun q hq h9 => h9.elim (hP q hq) (fun z => by subst z; exact ⟨(c7 hcp).1, (c7 hcp).2, Or.inr ⟨cap, f, hcp, c2⟩⟩)
    have y1 := x0.mono (Q := fun q => q = l ∨ q = e) (fun q _ hq => Or.inl hq)
    have y2 := (Ex.up w2 (e := .inl (4, cap, qA (va_up f xs.length (some y)))) ce).mono (Q := fun q => q = l ∨ q = e) (fun q _ hq => Or.inr hq)
    have hl2 : aC (aUp (aUp h l (.inr (16, [.int (m + 1), .ref e, .int (nI xs.length)]))) e (.inl (4, cap, qA (va_up f xs.length (some y))))) l = some (.inr (16, [.int (m + 1), .ref e, .int (nI xs.length)])) := by
      rw [aC_up_ne hne]; exact hd0
    have y3 := (Ex.up y2.wf (e := .inr (16, [.int (m + 1), .ref e, .int (nI (xs.length + 1))])) hl2).mono (Q := fun q => q = l ∨ q = e) (fun q _ hq => Or.inl hq)
    exact ((y1.tr y2).tr y3).mono hPe
