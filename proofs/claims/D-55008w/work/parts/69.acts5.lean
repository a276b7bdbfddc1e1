/-! PURE LAW: giving back -/
set_option maxRecDepth 100000
set_option maxHeartbeats 1000000
def lastI (col : Nat) : List WI → Nat → Int32 → Int32
  | [], _, l => l
  | i :: r, k, l => lastI col r (k + 1) (if iCol i = col then nI k else l)
theorem lastI_nat (col : Nat) : ∀ (r : List WI) (k l : Nat), lastI col r k (nI l) = nI (wLatest col r k l)
  | [], _, _ => rfl
  | i :: r, k, l => by
    show lastI col r (k + 1) (if iCol i = col then nI k else nI l) = nI (wLatest col r (k + 1) (if iCol i = col then k else l))
    rw [← lastI_nat col r (k + 1)]
    congr 1
    split <;> rfl
theorem lastI_any (col : Nat) : ∀ (r : List WI) (k : Nat) (x y : Int32), (∃ i ∈ r, iCol i = col) → lastI col r k x = lastI col r k y
  | [], _, _, _, h => by obtain ⟨i, hi, -⟩ := h; cases hi
  | i :: r, k, x, y, h => by
    show lastI col r (k + 1) (if iCol i = col then nI k else x) = lastI col r (k + 1) (if iCol i = col then nI k else y)
    by_cases hc : iCol i = col
    · rw [if_pos hc, if_pos hc]
    · rw [if_neg hc, if_neg hc]
      obtain ⟨z, hz, hzc⟩ := h
      rcases List.mem_cons.mp hz with rfl | hz
      · exact absurd hzc hc
      · exact lastI_any col r (k + 1) x y ⟨z, hz, hzc⟩
theorem wLatest_lt (col : Nat) {M : Nat} : ∀ (r : List WI) (k l : Nat), l < M → k + r.length ≤ M → wLatest col r k l < M
  | [], _, _, h, _ => h
  | i :: r, k, l, h, hk => by
    rw [List.length_cons] at hk
    refine wLatest_lt col r (k + 1) _ ?_ (by omega)
    split
    · omega
    · exact h
theorem f_apart {a b : Nat} (h : AH) (ha : a < 2 ^ 31) (hb : b < 2 ^ 31) : f_J15_abs (nI a - nI b) h = some (nI (apart a b), h) := by
  unfold f_J15_abs apart
  by_cases hab : b ≤ a
  · rw [nI_sub hab, if_pos (nI_pos' (by omega))]
    by_cases h2 : b < a
    · rw [if_pos h2]
    · rw [if_neg h2, show a - b = 0 by omega, show b - a = 0 by omega]
  · have e1 : nI a - nI b = -(nI (b - a)) := by rw [← nI_sub (Nat.le_of_not_le hab), Int32.neg_sub]
    have e2 : ¬ (0 : Int32) ≤ nI a - nI b := by
      intro z
      have h1 := Int32.le_iff_toInt_le.mp z
      rw [e1, Int32.toInt_neg, nI_toInt (by omega)] at h1
      have h0 : (0 : Int32).toInt = 0 := rfl
      rw [h0, Int.bmod_eq_of_le (by omega) (by omega)] at h1
      omega
    rw [if_neg e2, if_neg (by omega), e1, Int32.neg_neg]
section AC5
variable {N : Nat} {h h' : AH} {w lb li lr lm : Nat} {S : WS} {xm : List Nat}
theorem l_latest {col : Nat} (hcol : col < 2 ^ 31) (W : WSh N h w S xm) (I : Inv S) : ∀ (n k : Nat) (lat : Int32), k ≤ (wsI S).length → (wsI S).length - k < n → f_X2_latest_l4 n w (nI col) lat (nI k) h = some (lastI col ((wsI S).drop k) k lat, h) := by
  obtain ⟨lb, li, lr, lm, c⟩ := W.cell
  obtain ⟨hs, hc⟩ := wI_size W c
  have hl := I.2.1
  intro n
  induction n with
  | zero => intro k lat hk hn; omega
  | succ n IH =>
    intro k lat hk hn
    show fb_X2_latest_l4 (f_X2_latest_l4 n) w (nI col) lat (nI k) h = _
    unfold fb_X2_latest_l4
    rw [gtR_eq c rfl, bd_some, gd_t hc, hs, bd2_some]
    by_cases hkl : k = (wsI S).length
    · subst hkl
      rw [if_pos (nI_le (Nat.le_refl _) (by omega)), List.drop_length]; rfl
    · have hk1 : k < (wsI S).length := by omega
      obtain ⟨a, ga, ha⟩ := wI_get W c hk1
      have hd : (wsI S).drop k = gI S k :: (wsI S).drop (k + 1) := by
        rw [List.drop_eq_getElem_cons hk1]
        congr 1
        unfold gI; rw [List.getD_eq_getElem?_getD, List.getElem?_eq_getElem hk1]; rfl
      obtain ⟨I1, -, -⟩ := I.2.2.2.2.2.1 _ (gI_mem hk1)
      rw [if_neg (nI_ge hk1 (by omega)), gtR_eq c rfl, bd_some, gd_t hc, ga, bd2_some, gd_t (isC_eq ha), gtI_eq ha rfl, bd_some, hd, nI_1]
      by_cases hcc : iCol (gI S k) = col
      · rw [if_pos (by rw [hcc]), IH _ _ hk1 (by omega)]
        show _ = some (lastI col ((wsI S).drop (k + 1)) (k + 1) (if iCol (gI S k) = col then nI k else lat), h)
        rw [if_pos hcc]
      · rw [if_neg (fun z => hcc ((nI_eq (by omega) hcol).mp z)), IH _ _ hk1 (by omega)]
        show _ = some (lastI col ((wsI S).drop (k + 1)) (k + 1) (if iCol (gI S k) = col then nI k else lat), h)
        rw [if_neg hcc]
theorem f_latest {col : Nat} (hcol : col < 2 ^ 31) (W : WSh N h w S xm) (I : Inv S) (hex : ∃ i ∈ wsI S, iCol i = col) : f_X2_latest w (nI col) h = some (nI (wLatest col (wsI S) 0 0), h) := by
  unfold f_X2_latest
  have := l_latest hcol W I NN 0 (-1) (Nat.zero_le _) (by have := I.2.1; unfold NN; omega)
  rw [show (0 : Int32) = nI 0 from rfl, this, List.drop_zero, lastI_any col _ 0 (-1) (nI 0) hex, lastI_nat]
theorem x_giveBack {p : Int32} (wf : WF h) (E : EnvL h) (hN : N ≤ aZ h) (hB : aB h ≤ N) (W : WSh N h w S xm) (I : Inv S) :
    ∃ r h', f_X2_giveBack w p h = some (r, h') ∧ AnsD N w (pBack S p) r h' ∧ Ex (fun q => N ≤ q) h h' ∧ Co 6 300 h h' := by
  obtain ⟨lb, li, lr, lm, c⟩ := W.cell
  obtain ⟨X1, X2⟩ := x_roll (b := p) wf W I.2.2.1
  unfold f_X2_giveBack pBack
  rw [gd_t (isC_eq c)]
  cases hi : ixO p (wsR S).length with
  | none =>
    refine ansE rfl wf (ci := 22) (by decide) ?_
    rw [X2 hi, bdX_r, outX_eq (aC_new_self _ _ _) wf.1 (by decide)]
  | some i =>
    obtain ⟨a, e1, ha⟩ := X1 i hi
    obtain ⟨i1, rfl, i2⟩ := ixO_some hi
    obtain ⟨R1, R2, R3, R4, R5, R6, R7⟩ := I.2.2.2.2.2.2.1 _ (gR_mem i1)
    show ∃ r h', _ ∧ AnsD N w (if rBack (gR S i) = true then aFail 5 i else _) r h' ∧ _
    rw [e1, bdX_l, gtI_eq ha rfl, bd_some]
    cases hb : rBack (gR S i) with
    | true =>
      rw [if_neg (show ¬ nI (b01 true) = 0 by decide), if_pos rfl]
      refine ansF rfl wf ?_
      unfold f_X2_giveBack_j18
      rw [x_all0 wf, bdX_r, outX_eq (aC_new_self _ _ _) wf.1 (by decide)]; rfl
    | false =>
      rw [if_pos (show nI (b01 false) = 0 by decide), if_neg (by decide)]
      unfold f_X2_giveBack_j18
      rw [x_all1, bdX_l, gtI_eq ha rfl, bd_some]
      by_cases h2 : rUsed (gR S i) = 0
      · rw [if_pos (by rw [h2]; rfl), if_neg (fun z => z h2)]
        unfold f_X2_giveBack_j35
        have hcol : rCol (gR S i) ≤ 5 := by rw [R3]; exact (I.2.2.2.2.2.1 _ (gI_mem R2)).1
        have hex : ∃ z ∈ wsI S, iCol z = rCol (gR S i) := ⟨_, gI_mem R2, R3.symm⟩
        have hlt : wLatest (rCol (gR S i)) (wsI S) 0 0 < (wsI S).length := wLatest_lt _ _ 0 0 (by omega) (by omega)
        obtain ⟨b, gb, hb2⟩ := wI_get W c hlt
        have Ib := I.2.2.2.2.2.1 _ (gI_mem hlt)
        rw [gtI_eq ha rfl, bd_some, x_all1, bdX_l, gtI_eq ha rfl, bd_some, gtR_eq c rfl, bd_some, gtI_eq ha rfl, bd_some, gd_t (isC_eq c), f_latest (by omega) W I hex, bd2_some, gd_t (wI_size W c).2, gb, bd2_some, gd_t (isC_eq hb2), gtI_eq hb2 rfl, bd_some, f_apart h (by omega) (by have := Ib.2.1; omega), bd2_some]
        generalize hap : apart (rSha (gR S i)) (iSha (gI S (wLatest (rCol (gR S i)) (wsI S) 0 0))) = ap
        have hap2 : ap ≤ 13 := by
          rw [← hap]; unfold apart
          have := Ib.2.1
          split <;> omega
        by_cases h3 : 1 < ap
        · rw [if_pos (show (1 : Int32) < nI ap from nI_lt (a := 1) h3 (by omega)), if_pos h3]
          refine ansF rfl wf ?_
          unfold f_X2_giveBack_j86
          rw [x_all0 wf, bdX_r, outX_eq (aC_new_self _ _ _) wf.1 (by decide)]; rfl
        · rw [if_neg (show ¬ (1 : Int32) < nI ap from nI_nlt (a := 1) (by omega) (by omega)), if_neg h3]
          unfold f_X2_giveBack_j86 f_X10_back nwX
          obtain ⟨y1, y2, y3, y4, y5, y6, y7, y8⟩ := newO wf E W (n := 7) (ci := 9) (fs := fsX10) rfl
          have ha1 := y8 ha
          rw [x_all1, bdX_l, gtR_eq c rfl, bd_some, gd_t (isC_eq ha), bd2_some, gtI_eq ha1 rfl, bd_some, gtI_eq ha1 rfl, bd_some, gtI_eq ha1 rfl, bd_some, gtI_eq ha1 rfl, bd_some, gtI_eq ha1 rfl, bd_some, gtI_eq ha1 rfl, bd_some, show (1 : Int32) = nI (b01 true) from rfl, mk_R wf, bd2_some, bd2_some]
          obtain ⟨z1, z2, z3, z4, z5, z6, z7, z8⟩ := newO wf E W (n := 7) (ci := 9) (fs := [.int (nI (rBlk (gR S i))), .int (nI (rBat (gR S i))), .int (nI (rCol (gR S i))), .int (nI (rSha (gR S i))), .int (nI (rLen (gR S i))), .int (nI (rUsed (gR S i))), .int (nI (b01 true))]) rfl
          generalize aNew h 7 (.inr (9, [.int (nI (rBlk (gR S i))), .int (nI (rBat (gR S i))), .int (nI (rCol (gR S i))), .int (nI (rSha (gR S i))), .int (nI (rLen (gR S i))), .int (nI (rUsed (gR S i))), .int (nI (b01 true))])) = k at *
          have hnr : isRl k (aZ h) (rBlk (gR S i), rBat (gR S i), rCol (gR S i), rSha (gR S i), rLen (gR S i), rUsed (gR S i), true) := z5
          obtain ⟨x9, k2, m2, m3, m4, m5, m6, m7⟩ := wR_set z4 z3 (by omega) z2 (z8 c) i1 hnr
          have hx9 := m7 (by decide) m3
          have ha2 : isRl k2 a (gR S i) := m7 (by decide) (z8 ha)
          rw [gd_t (wR_size z2 (z8 c)).2, m2, bd2_some, gd_t (isC_eq hx9), gtI_eq ha2 rfl, bd_some]
          refine ⟨_, _, rfl, ⟨rfl, xm, m4⟩, (z1.mono (fun _ _ z => z.elim)).tr m5, ?_⟩
          unfold Co at m6 ⊢; omega
      · rw [if_neg (nI_ne0 (by omega) (by omega)), if_pos h2]
        refine ansF rfl wf ?_
        unfold f_X2_giveBack_j35
        rw [gtI_eq ha rfl, bd_some, x_all0 wf, bdX_r, outX_eq (aC_new_self _ _ _) wf.1 (by decide)]; rfl
end AC5
