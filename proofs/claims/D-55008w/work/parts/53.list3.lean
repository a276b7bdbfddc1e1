/-! PURE LAW: new lists, addAll, remove, iterators -/
set_option maxRecDepth 100000
set_option maxHeartbeats 1000000
theorem al_new {h : AH} (w : WF h) (E : EnvL h) :
    ∃ h', f_J2_init (aZ h) (aNew h 3 (.inr (16, fsJ2))) = some ((), h') ∧ (∀ T t, T (aZ h) = t → AL T t h' (aZ h) []) ∧ Ex (fun _ => False) h h' ∧ aZ h' = aZ h + 1 ∧ aS h' = aS h + 3 := by
  obtain ⟨⟨mi, hmi⟩, e0, he0, hle0, ce0⟩ := id E
  have w1 := w.nw 3 (.inr (16, fsJ2))
  have d1 : aC (aNew h 3 (.inr (16, fsJ2))) (aZ h) = some (.inr (16, [.int 0, .null, .int 0])) := aC_new_self _ _ _
  have d2 : aC (aUp (aNew h 3 (.inr (16, fsJ2))) (aZ h) (.inr (16, [.int 0, .null, .int 0]))) (aZ h) = some (.inr (16, [.int 0, .null, .int 0])) := aC_up_self _ _ _
  have hlt0 : e0 < aZ h := w.lt ce0
  refine ⟨aUp (aUp (aNew h 3 (.inr (16, fsJ2))) (aZ h) (.inr (16, [.int 0, .null, .int 0]))) (aZ h) (.inr (16, [.int 0, .ref e0, .int 0])), ?_, fun T t hT => ⟨hT, w.1, e0, 0, 0, fun _ => none, aC_up_self _ _ _, ?_, fun i hi => absurd hi (Nat.not_lt_zero i), Nat.le_refl _, Nat.zero_le _, fun _ => he0, fun z => absurd z (Nat.lt_irrefl 0)⟩, ?_, rfl, rfl⟩
  · unfold f_J2_init f_J1_init f_J0_init
    rw [bd2_some, stF_eq d1 w.1 (Nat.le_of_ble_eq_true rfl), bd_some, bd2_some]
    simp only [List.set_cons_zero]
    rw [show aE (aUp (aNew h 3 (.inr (16, fsJ2))) (aZ h) (.inr (16, [.int 0, .null, .int 0]))) 0 = some e0 from he0, bd_some, stF_eq d2 w.1 (Nat.le_of_ble_eq_true rfl)]; rfl
  · rw [aC_up_ne (by omega), aC_up_ne (by omega), aC_new_lt hlt0]; exact ce0
  · exact ⟨rfl, rfl, Nat.le_succ _, Nat.le_add_right _ _, (w1.up d1).up d2, fun q hq _ => by rw [aC_up_ne (Nat.ne_of_lt hq), aC_up_ne (Nat.ne_of_lt hq), aC_new_lt hq]⟩
/-- addAll into an empty list -/
theorem al_addAll {T : Nat → Nat} {t t2 : Nat} {h : AH} {l l2 : Nat} {ys : List Nat} (w : WF h) (E : EnvL h) (a : AL T t h l []) (b : AL T t2 h l2 ys) (hne : l ≠ l2) (hlen : ys.length ≤ 60) :
    ∃ r h', f_J2_addAll l l2 h = some (r, h') ∧ AL (updT T (aZ h) t) t h' l ys ∧ Ex (listP T t h) h h' ∧ Co 2 200 h h' := by
  obtain ⟨h1, h2, e, m, cap, f, c1, c2, c3, c4, c5, c6, c7⟩ := id a
  obtain ⟨g1, g2, e2, m2, cap2, f2, k1, k2, k3, k4, k5, k6, k7⟩ := b
  obtain ⟨⟨mi, hmi⟩, e0, he0, hle0, ce0⟩ := id E
  have hll := w.lt c1
  have hel := w.lt c2
  have hle : l ≠ e := fun z => by rw [z, c2] at c1; cases c1
  unfold f_J2_addAll
  rw [gd_t (isC_eq k1)]
  unfold f_J2_toArray
  rw [gtR_eq k1 rfl, bd_some, gtI_eq k1 rfl, bd_some, f_copyOf w hmi k2 (by omega) (by omega), bd2_some, bd2_some]
  generalize hn : ys.length = n at *
  have hmin : min cap2 n = n := Nat.min_eq_right k4
  rw [hmin]
  generalize hK : aUp (aNew h n (.inl (4, n, zer 4))) (aZ h) (.inl (4, n, qA (va_cpy f2 (fun _ => none) 0 0 n))) = K
  have KB : aB K = aB h := by rw [← hK]; rfl
  have KE : aE K = aE h := by rw [← hK]; rfl
  have KZ : aZ K = aZ h + 1 := by rw [← hK]; rfl
  have KS : aS K = aS h + n := by rw [← hK]; rfl
  have xK : Ex (fun _ => False) h K := by
    rw [← hK]
    exact ⟨rfl, rfl, Nat.le_succ _, Nat.le_add_right _ _, (w.nw _ _).up (aC_new_self _ _ _), fun q hq _ => by rw [aC_up_ne (Nat.ne_of_lt hq), aC_new_lt hq]⟩
  have wK := xK.wf
  have Kl := xK.at w c1 (fun z => z)
  have Ke := xK.at w c2 (fun z => z)
  have Ka : aC K (aZ h) = some (.inl (4, n, qA (va_cpy f2 (fun _ => none) 0 0 n))) := by rw [← hK]; exact aC_up_self _ _ _
  have hal : aZ h ≠ l := by omega
  have d1 : aC (aUp K l (.inr (16, [.int (m + 1), .ref e, .int (nI 0)]))) l = some (.inr (16, [.int (m + 1), .ref e, .int (nI 0)])) := aC_up_self _ _ _
  have w1 : WF (aUp K l (.inr (16, [.int (m + 1), .ref e, .int (nI 0)]))) := wK.up Kl
  have d2 : aC (aUp K l (.inr (16, [.int (m + 1), .ref e, .int (nI 0)]))) (aZ h) = some (.inl (4, n, qA (va_cpy f2 (fun _ => none) 0 0 n))) := by rw [aC_up_ne hal]; exact Ka
  have d3 : aC (aUp K l (.inr (16, [.int (m + 1), .ref e, .int (nI 0)]))) e = some (.inl (4, cap, qA f)) := by rw [aC_up_ne (Ne.symm hle)]; exact Ke
  rw [gtI_eq Kl rfl, bd_some, stF_eq Kl (by rw [KB]; exact h2) (Nat.le_of_ble_eq_true rfl), bd_some]
  simp only [List.set_cons_zero]
  have hnil : (nI ([] : List Nat).length) = nI 0 := rfl
  rw [hnil] at *
  have x1 : Ex (fun q => q = l) h (aUp K l (.inr (16, [.int (m + 1), .ref e, .int (nI 0)]))) := (xK.mono (fun _ _ z => z.elim)).tr (Ex.up wK Kl)
  have hP : ∀ q, q < aZ h → q = l → listP T t h q := fun q _ hq => by subst hq; exact ⟨h2, h1, Or.inl ⟨_, c1⟩⟩
  rw [aLn_eq d2, bd_some]
  by_cases hz : n = 0
  · subst hz
    rw [if_pos (show nI 0 = 0 from rfl)]
    have hys : ys = [] := List.length_eq_zero_iff.mp hn
    subst hys
    refine ⟨_, _, rfl, ⟨by rw [updT_lt hll]; exact h1, by show aB K ≤ l; rw [KB]; exact h2, e, m + 1, cap, f, d1, d3, fun i hi => absurd hi (Nat.not_lt_zero i), Nat.zero_le _, c5, fun z => by show aE K 0 = some e; rw [KE]; exact c6 z, fun z => ⟨by show aB K ≤ e; rw [KB]; exact (c7 z).1, by rw [updT_lt hel]; exact (c7 z).2⟩⟩, x1.mono hP, ?_⟩
    constructor
    · show aZ K ≤ aZ h + 2; omega
    · show aS K ≤ aS h + 200; omega
  · rw [if_neg (nI_ne0 (by omega) (by omega)), gtR_eq d1 rfl, bd_some, aLn_eq d3, bd_some, gtI_eq d1 rfl, bd_some, nI_sub (Nat.zero_le _), Nat.sub_zero]
    have fin : ∀ {k : AH} {e9 cap9 : Nat} {g : Nat → Option Nat}, WF k → aB k = aB h → aC k l = some (.inr (16, [.int (m + 1), .ref e9, .int (nI 0)])) → aC k e9 = some (.inl (4, cap9, qA g)) → aC k (aZ h) = some (.inl (4, n, qA (va_cpy f2 (fun _ => none) 0 0 n))) → n ≤ cap9 → cap9 ≤ 100 → aB h ≤ e9 →
        f_J2_addAll_j56 l (aZ h) (nI n) e9 (nI 0) k = some (1, aUp (aUp k e9 (.inl (4, cap9, qA (va_cpy (va_cpy f2 (fun _ => none) 0 0 n) g 0 0 n)))) l (.inr (16, [.int (m + 1), .ref e9, .int (nI n)]))) ∧
        (updT T (aZ h) t e9 = t → AL (updT T (aZ h) t) t (aUp (aUp k e9 (.inl (4, cap9, qA (va_cpy (va_cpy f2 (fun _ => none) 0 0 n) g 0 0 n)))) l (.inr (16, [.int (m + 1), .ref e9, .int (nI n)]))) l ys) := by
      intro k e9 cap9 g wk hbk q1 q2 q3 q4 q5 q6
      have hn9 : l ≠ e9 := fun z => by rw [z, q2] at q1; cases q1
      have q9 : aC (aUp k e9 (.inl (4, cap9, qA (va_cpy (va_cpy f2 (fun _ => none) 0 0 n) g 0 0 n)))) l = some (.inr (16, [.int (m + 1), .ref e9, .int (nI 0)])) := by rw [aC_up_ne hn9]; exact q1
      refine ⟨?_, fun hT9 => ⟨by rw [updT_lt hll]; exact h1, by show aB k ≤ l; rw [hbk]; exact h2, e9, m + 1, cap9, va_cpy (va_cpy f2 (fun _ => none) 0 0 n) g 0 0 n, by rw [aC_up_self, hn], ?_, fun i hi => ?_, by omega, q5, fun z => by omega, fun _ => ⟨by show aB k ≤ e9; rw [hbk]; exact q6, hT9⟩⟩⟩
      · unfold f_J2_addAll_j56
        have hcp := cpQ_eq (h := k) (sp := 0) (dp := 0) (m := n) q3 q2 (by omega) (by omega) (by omega) (by omega) (by rw [hbk]; exact q6)
        rw [show (0 : Int32) = nI 0 from rfl, hcp, bd_some, nI_add, Nat.zero_add, stF_eq q9 (by show aB k ≤ l; rw [hbk]; exact h2) (Nat.le_of_ble_eq_true rfl), bd_some]; rfl
      · rw [aC_up_ne (Ne.symm hn9)]; exact aC_up_self _ _ _
      · rw [hn] at hi
        unfold va_cpy
        rw [if_pos ⟨Nat.zero_le _, by omega⟩, if_pos ⟨Nat.zero_le _, by omega⟩, ← k3 i hi]
        congr 1; omega
    by_cases hfit : n ≤ cap
    · rw [if_pos (nI_le hfit (by omega))]
      have hcp : 0 < cap := by omega
      obtain ⟨r1, r2⟩ := fin w1 KB d1 d3 d2 hfit c5 (c7 hcp).1
      rw [r1]
      refine ⟨_, _, rfl, r2 (by rw [updT_lt hel]; exact (c7 hcp).2), ?_, ?_⟩
      · have hPe : ∀ q, q < aZ h → (q = l ∨ q = e) → listP T t h q := fun q hq h9 => h9.elim (hP q hq) (fun z => by subst z; exact ⟨(c7 hcp).1, (c7 hcp).2, Or.inr ⟨cap, f, hcp, c2⟩⟩)
        have y1 := x1.mono (Q := fun q => q = l ∨ q = e) (fun q _ hq => Or.inl hq)
        have y2 := (Ex.up w1 (e := .inl (4, cap, qA (va_cpy (va_cpy f2 (fun _ => none) 0 0 n) f 0 0 n))) d3).mono (Q := fun q => q = l ∨ q = e) (fun q _ hq => Or.inr hq)
        have hl2 : aC (aUp (aUp K l (.inr (16, [.int (m + 1), .ref e, .int (nI 0)]))) e (.inl (4, cap, qA (va_cpy (va_cpy f2 (fun _ => none) 0 0 n) f 0 0 n)))) l = some (.inr (16, [.int (m + 1), .ref e, .int (nI 0)])) := by rw [aC_up_ne hle]; exact d1
        have y3 := (Ex.up y2.wf (e := .inr (16, [.int (m + 1), .ref e, .int (nI n)])) hl2).mono (Q := fun q => q = l ∨ q = e) (fun q _ hq => Or.inl hq)
        exact ((y1.tr y2).tr y3).mono hPe
      · constructor
        · show aZ K ≤ aZ h + 2; omega
        · show aS K ≤ aS h + 200; omega
    · rw [if_neg (nI_ge (by omega) (by omega)), gd_t (isC_eq d1), nI_add, Nat.zero_add]
      have hEn : EnvL (aUp K l (.inr (16, [.int (m + 1), .ref e, .int (nI 0)]))) := ⟨⟨mi, by show aE K 99 = some mi; rw [KE]; exact hmi⟩, e0, by show aE K 0 = some e0; rw [KE]; exact he0, by show e0 < aB K; rw [KB]; exact hle0, by rw [aC_up_ne (by omega)]; exact xK.at w ce0 (fun z => z)⟩
      obtain ⟨ncap, g, k, q1, q2, q3, q4, q5, q6, q7, q8, q9⟩ := al_grow w1 hEn d1 d3 (Nat.zero_le _) c5 (fun z => by show aE K 0 = some e; rw [KE]; exact c6 z) (fun z hz => by
        have := (c7 z).1
        rw [show aE (aUp K l (.inr (16, [.int (m + 1), .ref e, .int (nI 0)]))) 0 = aE h 0 from congrFun KE 0, he0] at hz
        cases hz; omega) (by show aB K ≤ l; rw [KB]; exact h2) (need := n) (by omega) (by omega)
      rw [q1, bd2_some]
      have hbk : aB k = aB h := q7.1.trans KB
      have hZ1 : aZ (aUp K l (.inr (16, [.int (m + 1), .ref e, .int (nI 0)]))) = aZ h + 1 := KZ
      rw [hZ1] at q4 q5 q8 ⊢
      have dk : aC k (aZ h) = some (.inl (4, n, qA (va_cpy f2 (fun _ => none) 0 0 n))) := q7.at w1 d2 hal
      obtain ⟨r1, r2⟩ := fin q7.wf hbk q4 q5 dk (by omega) (by omega) (Nat.le_succ_of_le w.1)
      rw [r1]
      refine ⟨_, _, rfl, r2 (updT_ge (Nat.le_succ _)), ?_, ?_⟩
      · have y1 : Ex (fun q => q = l) h k := x1.tr q7
        have y2 : Ex (fun q => q = l) h (aUp k (aZ h + 1) (.inl (4, ncap, qA (va_cpy (va_cpy f2 (fun _ => none) 0 0 n) g 0 0 n)))) := ⟨y1.1, y1.2.1, y1.2.2.1, y1.2.2.2.1, q7.wf.up q5, fun q hq hp => by rw [aC_up_ne (by omega)]; exact y1.2.2.2.2.2 q hq hp⟩
        have hl2 : aC (aUp k (aZ h + 1) (.inl (4, ncap, qA (va_cpy (va_cpy f2 (fun _ => none) 0 0 n) g 0 0 n)))) l = some (.inr (16, [.int (m + 1), .ref (aZ h + 1), .int (nI 0)])) := by
          rw [aC_up_ne (by omega)]; exact q4
        exact (y2.tr (Ex.up y2.wf hl2)).mono hP
      · constructor
        · show aZ k ≤ aZ h + 2; omega
        · show aS k ≤ aS h + 200
          have : aS (aUp K l (.inr (16, [.int (m + 1), .ref e, .int (nI 0)]))) = aS K := rfl
          omega
/-- remove of the last element -/
theorem al_removeLast {T : Nat → Nat} {t : Nat} {h : AH} {l y : Nat} {xs : List Nat} (w : WF h) (a : AL T t h l (xs ++ [y])) :
    ∃ h', f_J2_remove l (nI xs.length) h = some (y, h') ∧ AL T t h' l xs ∧ Ex (listP T t h) h h' ∧ Co 0 0 h h' := by
  have hl := al_len a
  obtain ⟨h1, h2, e, m, cap, f, c1, c2, c3, c4, c5, c6, c7⟩ := a
  rw [List.length_append, List.length_singleton] at *
  have hne : l ≠ e := fun z => by rw [z, c2] at c1; cases c1
  have hcp : 0 < cap := by omega
  have hy : f xs.length = some y := by rw [c3 _ (Nat.lt_succ_self _), List.getElem?_append_right (Nat.le_refl _), Nat.sub_self]; rfl
  have d1 : aC (aUp h l (.inr (16, [.int (m + 1), .ref e, .int (nI (xs.length + 1))]))) l = some (.inr (16, [.int (m + 1), .ref e, .int (nI (xs.length + 1))])) := aC_up_self _ _ _
  have d2 : aC (aUp (aUp h l (.inr (16, [.int (m + 1), .ref e, .int (nI (xs.length + 1))]))) l (.inr (16, [.int (m + 1), .ref e, .int (nI xs.length)]))) e = some (.inl (4, cap, qA f)) := by rw [aC_up_ne (Ne.symm hne), aC_up_ne (Ne.symm hne)]; exact c2
  have w1 : WF (aUp h l (.inr (16, [.int (m + 1), .ref e, .int (nI (xs.length + 1))]))) := w.up c1
  have w2 : WF (aUp (aUp h l (.inr (16, [.int (m + 1), .ref e, .int (nI (xs.length + 1))]))) l (.inr (16, [.int (m + 1), .ref e, .int (nI xs.length)]))) := w1.up d1
  refine ⟨aUp (aUp (aUp h l (.inr (16, [.int (m + 1), .ref e, .int (nI (xs.length + 1))]))) l (.inr (16, [.int (m + 1), .ref e, .int (nI xs.length)]))) e (.inl (4, cap, qA (va_up f xs.length none))), ?_, ⟨h1, h2, e, m + 1, cap, va_up f xs.length none, ?_, ?_, fun i hi => ?_, ?_, c5, c6, c7⟩, ?_, Co.rf⟩
  rotate_left
  · rw [aC_up_ne hne]; exact aC_up_self _ _ _
  · exact aC_up_self _ _ _
  · unfold va_up
    rw [if_neg (Nat.ne_of_lt hi), c3 i (Nat.lt_succ_of_lt hi), List.getElem?_append_left hi]
  · omega
  · have hPe : ∀ q, q < aZ h → (q = l ∨ q = e) → listP T t h q := fun q hq h9 => h9.elim (fun z => by subst z; exact ⟨h2, h1, Or.inl ⟨_, c1⟩⟩) (fun z => by subst z; exact ⟨(c7 hcp).1, (c7 hcp).2, Or.inr ⟨cap, f, hcp, c2⟩⟩)
    have y1 := (Ex.up w (e := .inr (16, [.int (m + 1), .ref e, .int (nI (xs.length + 1))])) c1).mono (Q := fun q => q = l ∨ q = e) (fun q _ hq => Or.inl hq)
    have y2 := (Ex.up w1 (e := .inr (16, [.int (m + 1), .ref e, .int (nI xs.length)])) d1).mono (Q := fun q => q = l ∨ q = e) (fun q _ hq => Or.inl hq)
    have y3 := (Ex.up w2 (e := .inl (4, cap, qA (va_up f xs.length none))) d2).mono (Q := fun q => q = l ∨ q = e) (fun q _ hq => Or.inr hq)
    exact ((y1.tr y2).tr y3).mono hPe
  · unfold f_J2_remove
    rw [gtI_eq c1 rfl, bd_some, ckIdx h (Nat.lt_succ_self _) (by omega), bd2_some, gtR_eq c1 rfl, bd_some, ldN_eq c2 (by omega) (by omega) hy, bd_some, gd_t (isC_eq c1)]
    unfold f_J2_fastRemove
    rw [gtI_eq c1 rfl, bd_some, stF_eq c1 h2 (Nat.le_of_ble_eq_true rfl), bd_some]
    simp only [List.set_cons_zero]
    rw [gtI_eq d1 rfl, bd_some, nI_pred, if_pos (nI_le (Nat.le_refl _) (by omega)), stF_eq d1 h2 (Nat.le_of_ble_eq_true rfl), bd_some]
    simp only [List.set_cons_zero, List.set_cons_succ]
    rw [stQ_eq (v := none) d2 (c7 hcp).1 (by omega) (by omega) rfl]; rfl
/-! iterators -/
def ITR (h : AH) (it l j : Nat) : Prop := ∃ (lr m : Int32) (e : Nat) (n : Int32), aB h ≤ it ∧ aC h it = some (.inr (20, [.int (nI j), .int lr, .int m, .ref l])) ∧ aC h l = some (.inr (16, [.int m, .ref e, .int n]))
theorem it_new {T : Nat → Nat} {t : Nat} {h : AH} {l : Nat} {xs : List Nat} (w : WF h) (a : AL T t h l xs) :
    ∃ h', f_J2_iterator l h = some (aZ h, h') ∧ ITR h' (aZ h) l 0 ∧ Ex (fun _ => False) h h' ∧ aZ h' = aZ h + 1 ∧ aS h' = aS h + 4 := by
  obtain ⟨h1, h2, e, m, cap, f, c1, c2, -⟩ := a
  have hll := w.lt c1
  have w0 := w.nw 4 (.inr (20, fsJ19))
  have d0 : aC (aNew h 4 (.inr (20, fsJ19))) (aZ h) = some (.inr (20, [.int 0, .int 0, .int 0, .null])) := aC_new_self _ _ _
  have d1 : aC (aUp (aNew h 4 (.inr (20, fsJ19))) (aZ h) (.inr (20, [.int 0, .int 0, .int 0, .ref l]))) (aZ h) = some (.inr (20, [.int 0, .int 0, .int 0, .ref l])) := aC_up_self _ _ _
  have d2 : aC (aUp (aUp (aNew h 4 (.inr (20, fsJ19))) (aZ h) (.inr (20, [.int 0, .int 0, .int 0, .ref l]))) (aZ h) (.inr (20, [.int 0, .int (-1), .int 0, .ref l]))) (aZ h) = some (.inr (20, [.int 0, .int (-1), .int 0, .ref l])) := aC_up_self _ _ _
  have d3 : aC (aUp (aUp (aNew h 4 (.inr (20, fsJ19))) (aZ h) (.inr (20, [.int 0, .int 0, .int 0, .ref l]))) (aZ h) (.inr (20, [.int 0, .int (-1), .int 0, .ref l]))) l = some (.inr (16, [.int m, .ref e, .int (nI xs.length)])) := by
    rw [aC_up_ne (Nat.ne_of_lt hll), aC_up_ne (Nat.ne_of_lt hll), aC_new_lt hll]; exact c1
  refine ⟨aUp (aUp (aUp (aNew h 4 (.inr (20, fsJ19))) (aZ h) (.inr (20, [.int 0, .int 0, .int 0, .ref l]))) (aZ h) (.inr (20, [.int 0, .int (-1), .int 0, .ref l]))) (aZ h) (.inr (20, [.int 0, .int (-1), .int m, .ref l])), ?_, ⟨-1, m, e, nI xs.length, w.1, aC_up_self _ _ _, by rw [aC_up_ne (Nat.ne_of_lt hll)]; exact d3⟩, ⟨rfl, rfl, Nat.le_succ _, Nat.le_add_right _ _, ((w0.up d0).up d1).up d2, fun q hq _ => by rw [aC_up_ne (Nat.ne_of_lt hq), aC_up_ne (Nat.ne_of_lt hq), aC_up_ne (Nat.ne_of_lt hq), aC_new_lt hq]⟩, rfl, rfl⟩
  unfold f_J2_iterator nwX
  rw [bd2_some]
  unfold f_J19_init
  rw [stF_eq d0 w.1 (Nat.le_of_ble_eq_true rfl), bd_some]
  simp only [List.set_cons_zero, List.set_cons_succ]
  rw [stF_eq d1 w.1 (Nat.le_of_ble_eq_true rfl), bd_some]
  simp only [List.set_cons_zero, List.set_cons_succ]
  rw [gtR_eq d2 rfl, bd_some, gtI_eq d3 rfl, bd_some, stF_eq d2 w.1 (Nat.le_of_ble_eq_true rfl)]; rfl
theorem it_hasNext {T : Nat → Nat} {t : Nat} {h : AH} {it l j : Nat} {xs : List Nat} (a : AL T t h l xs) (i : ITR h it l j) (hj : j ≤ xs.length) : f_J19_hasNext it h = some (if j = xs.length then 0 else 1, h) := by
  have hl := al_len a
  obtain ⟨h1, h2, e, m, cap, f, c1, c2, -⟩ := a
  obtain ⟨lr, m', e', n', -, d1, d2⟩ := i
  unfold f_J19_hasNext
  rw [gtI_eq d1 rfl, bd_some, gtR_eq d1 rfl, bd_some, gtI_eq c1 rfl, bd_some]
  by_cases hz : j = xs.length
  · rw [if_pos (by rw [hz]), if_pos hz]
  · rw [if_neg (fun z => hz ((nI_eq (by omega) (by omega)).mp z)), if_neg hz]
theorem it_next {T : Nat → Nat} {t : Nat} {h : AH} {it l j x : Nat} {xs : List Nat} (w : WF h) (a : AL T t h l xs) (i : ITR h it l j) (hx : xs[j]? = some x) :
    ∃ h', f_J19_next it h = some (x, h') ∧ ITR h' it l (j + 1) ∧ Ex (fun q => q = it) h h' ∧ Co 0 0 h h' := by
  have hl := al_len a
  have hj : j < xs.length := (List.getElem?_eq_some_iff.mp hx).1
  obtain ⟨h1, h2, e, m, cap, f, c1, c2, c3, c4, c5, -⟩ := a
  obtain ⟨lr, m', e', n', hb, d1, d2⟩ := i
  cases c1.symm.trans d2
  have hil : it ≠ l := fun z => by rw [z, c1] at d1; cases d1
  have hie : it ≠ e := fun z => by rw [z, c2] at d1; cases d1
  have k1 : aC (aUp h it (.inr (20, [.int (nI (j + 1)), .int lr, .int m, .ref l]))) it = some (.inr (20, [.int (nI (j + 1)), .int lr, .int m, .ref l])) := aC_up_self _ _ _
  have w1 : WF (aUp h it (.inr (20, [.int (nI (j + 1)), .int lr, .int m, .ref l]))) := w.up d1
  refine ⟨aUp (aUp h it (.inr (20, [.int (nI (j + 1)), .int lr, .int m, .ref l]))) it (.inr (20, [.int (nI (j + 1)), .int (nI j), .int m, .ref l])), ?_, ⟨nI j, m, e, _, hb, aC_up_self _ _ _, by rw [aC_up_ne (Ne.symm hil), aC_up_ne (Ne.symm hil)]; exact c1⟩, (Ex.up w d1).tr (Ex.up w1 k1), Co.rf⟩
  unfold f_J19_next
  rw [gd_t (isC_eq d1)]
  unfold f_J19_checkForComodification
  rw [gtR_eq d1 rfl, bd_some, gtI_eq c1 rfl, bd_some, gtI_eq d1 rfl, bd_some, if_pos rfl, bd2_some, gtI_eq d1 rfl, bd_some, gtR_eq d1 rfl, bd_some, gtI_eq c1 rfl, bd_some, if_pos (nI_lt hj (by omega)), bd_some, gtR_eq c1 rfl, bd_some, aLn_eq c2, bd_some, if_pos (nI_lt (Nat.lt_of_lt_of_le hj c4) (by omega)), nI_1, stF_eq d1 hb (Nat.le_of_ble_eq_true rfl), bd_some]
  simp only [List.set_cons_zero, List.set_cons_succ]
  rw [stF_eq k1 hb (Nat.le_of_ble_eq_true rfl), bd_some]
  simp only [List.set_cons_zero, List.set_cons_succ]
  have ce : aC (aUp (aUp h it (.inr (20, [.int (nI (j + 1)), .int lr, .int m, .ref l]))) it (.inr (20, [.int (nI (j + 1)), .int (nI j), .int m, .ref l]))) e = some (.inl (4, cap, qA f)) := by rw [aC_up_ne (Ne.symm hie), aC_up_ne (Ne.symm hie)]; exact c2
  rw [ldN_eq ce (by omega) (by omega) ((c3 j hj).trans hx)]; rfl
