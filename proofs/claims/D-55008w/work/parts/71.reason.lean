/-! PURE LAW: missing, unlike, reason -/
set_option maxRecDepth 100000
set_option maxHeartbeats 1000000
section RS
variable {N : Nat} {h h' : AH} {w lb li lr lm a ld : Nat} {S : WS} {xm xd : List Nat} {m : WM}
theorem wBegin_lt (Im : InvM S m) (I : Inv S) (he : mDro m ≠ []) (n : Nat) : wBegin S m n < 90 := by
  have hl : 0 < (mDro m).length := List.length_pos_iff.mpr he
  have Id := Im.2.2.2.2.2 _ (gD_mem hl)
  have Ir := I.2.2.2.2.2.2.1 _ (gR_mem Id.1)
  have Ib := I.2.2.2.2.1 _ (gB_mem Ir.1)
  unfold wBegin
  split
  · exact Nat.lt_of_lt_of_le (Nat.mod_lt _ (by have := Ib.1; omega)) Ib.2.1
  · exact Id.2.2.1
theorem wWaste_lt (I : Inv S) {r : WR} (Ir : InvR S r) : wWaste S m r < 90 := by
  have Ib := I.2.2.2.2.1 _ (gB_mem Ir.1)
  unfold wWaste
  split
  · omega
  · exact Nat.lt_of_lt_of_le (Nat.mod_lt _ (by have := Ib.1; omega)) Ib.2.1
/-- begin, then waste: in one -/
theorem f_bw {q : Nat} {r : WR} (W : WSh N h w S xm) (V : RmV h a m ld xd) (Im : InvM S m) (I : Inv S) (hq : isRl h q r) (Ir : InvR S r) :
    ∃ x, f_X2_begin w a (nI (mDro m).length) h = some (x, h) ∧ f_X2_waste w q (nI (rUsed r)) x h = some (nI (wWaste S m r), h) := by
  have hu : rUsed r ≤ 1000 := Nat.le_trans Ir.2.2.2.2.2.2 Ir.2.2.2.2.2.1
  have hlen : (mDro m).length ≤ 30 := Nat.le_trans Im.2.2.2.2.1 Im.2.2.2.1
  obtain ⟨w1, w2⟩ := f_waste W V Im I hq Ir (u := rUsed r) (by omega)
  rcases f_begin W V Im I (n := (mDro m).length) (by omega) with hb | ⟨he, hn⟩
  · refine ⟨_, hb, ?_⟩
    by_cases he : mDro m = []
    · rw [if_pos (by rw [he]; rfl), w1 he]
      unfold wWaste; rw [if_pos he]; rfl
    · have hl : 0 < (mDro m).length := List.length_pos_iff.mpr he
      have hB := wBegin_lt Im I he (mDro m).length
      rw [if_neg (by omega), w2 (by omega)]
      unfold wWaste; rw [if_neg he]
  · rw [he] at hn; exact absurd rfl hn
theorem f_missing {q : Nat} {r : WR} (W : WSh N h w S xm) (V : RmV h a m ld xd) (Im : InvM S m) (I : Inv S) (hq : isRl h q r) (Ir : InvR S r) :
    f_X2_missing w a q h = some ((nI (wWaste S m r) + nI (mHei m)) - nI (rLeft r), h) := by
  obtain ⟨lb, li, lr, lm, c⟩ := W.cell
  obtain ⟨x, e1, e2⟩ := f_bw W V Im I hq Ir
  unfold f_X2_missing
  rw [gtI_eq hq rfl, bd_some, gtR_eq V.1 rfl, bd_some, gd_t (rv_size V).2, (rv_size V).1, bd2_some, gd_t (isC_eq c), e1, bd2_some, gd_t (isC_eq c), e2, bd2_some, gtI_eq V.1 rfl, bd_some, gd_t (isC_eq hq), f_left hq Ir.2.2.2.2.2.2]
  rfl
theorem f_unlike {q : Nat} {r : WR} (V : RmV h a m ld xd) (Im : InvM S m) (I : Inv S) (hq : isRl h q r) (Ir : InvR S r) :
    f_X2_unlike w a q h = some (nI (if mDro m = [] then 0 else apart (dSha (gD0 m ((mDro m).length - 1))) (rSha r)), h) := by
  unfold f_X2_unlike
  rw [gtR_eq V.1 rfl, bd_some, gd_t (rv_size V).2, rv_empty V, bd2_some]
  by_cases he : mDro m = []
  · rw [if_pos he, if_neg (show ¬ (1 : Int32) = 0 by decide), if_pos he]; rfl
  · have hl : 0 < (mDro m).length := List.length_pos_iff.mpr he
    obtain ⟨d, g2, hd⟩ := rv_get V (j := (mDro m).length - 1) (by omega)
    have Id := Im.2.2.2.2.2 _ (gD_mem (j := (mDro m).length - 1) (by omega))
    have Ir2 := I.2.2.2.2.2.2.1 _ (gR_mem Id.1)
    have hs : dSha (gD0 m ((mDro m).length - 1)) ≤ 13 := by rw [Id.2.1]; exact Ir2.2.2.2.1
    rw [if_neg he, if_pos rfl, if_neg he, gd_t (isC_eq V.1)]
    unfold f_X5_last
    rw [gtR_eq V.1 rfl, bd_some, bd_some, gd_t (rv_size V).2, (rv_size V).1, bd2_some, gd_t (rv_size V).2, show (1 : Int32) = nI 1 from rfl, nI_sub hl, g2, bd2_some, gd_t (isC_eq hd), bd2_some, gtI_eq hd rfl, bd_some, gtI_eq hq rfl, bd_some, f_apart h (by omega) (by have := Ir.2.2.2.1; omega)]
    rfl
theorem miss_le {x y z : Nat} (hx : x ≤ 100000) (hy : y ≤ 100000) (hz : z ≤ 100000) : ((nI x + nI y) - nI z ≤ 0) ↔ ¬ z < x + y := by
  rw [nI_add]
  by_cases h1 : z ≤ x + y
  · rw [nI_sub h1]
    have : nI (x + y - z) ≤ 0 ↔ x + y - z ≤ 0 := nI_leI (a := x + y - z) (b := 0) (by omega) (by omega)
    rw [this]; omega
  · have e1 : nI (x + y) - nI z = -(nI (z - (x + y))) := by rw [← nI_sub (Nat.le_of_not_le h1), Int32.neg_sub]
    rw [e1]
    constructor
    · intro _; omega
    · intro _
      rw [Int32.le_iff_toInt_le, Int32.toInt_neg, nI_toInt (by omega)]
      have h0 : (0 : Int32).toInt = 0 := rfl
      rw [h0, Int.bmod_eq_of_le (by omega) (by omega)]
      omega
theorem f_reason {q ri : Nat} (W : WSh N h w S xm) (V : RmV h a m ld xd) (Im : InvM S m) (I : Inv S) (hq : isRl h q (gR S ri)) (hri : ri < (wsR S).length) :
    f_X2_reason w a q h = some (nI (wReason S m ri).1, h) := by
  obtain ⟨lb, li, lr, lm, c⟩ := W.cell
  have Ir := I.2.2.2.2.2.2.1 _ (gR_mem hri)
  obtain ⟨o, g0, gn, gs⟩ := f_first W V Im
  have hcol : ∀ {j}, j < (wsR S).length → rCol (gR S j) ≤ 5 := fun hj => by
    have Ij := I.2.2.2.2.2.2.1 _ (gR_mem hj)
    rw [Ij.2.2.1]; exact (I.2.2.2.2.2.1 _ (gI_mem Ij.2.1)).1
  have hWl := wWaste_lt (m := m) I Ir
  have hLl : rLeft (gR S ri) ≤ 1000 := by unfold rLeft; have := Ir.2.2.2.2.2.1; split <;> omega
  have hHl : mHei m ≤ 400 := Im.2.1
  -- the end of the chain
  have fin : (∀ (_ : ¬ (mDro m ≠ [] ∧ 1 < apart (dSha (gD0 m ((mDro m).length - 1))) (rSha (gR S ri)))), f_X2_reason_j60 w a q h = some (nI (if rLeft (gR S ri) < wWaste S m (gR S ri) + mHei m then (9, wWaste S m (gR S ri) + mHei m - rLeft (gR S ri)) else ((0, 0) : Nat × Nat)).1, h)) ∧ (∀ (_ : mDro m ≠ [] ∧ 1 < apart (dSha (gD0 m ((mDro m).length - 1))) (rSha (gR S ri))), f_X2_reason_j60 w a q h = some (nI 8, h)) := by
    have hap : (if mDro m = [] then 0 else apart (dSha (gD0 m ((mDro m).length - 1))) (rSha (gR S ri))) < 2 ^ 31 := by
      split
      · decide
      · rename_i he
        have hl : 0 < (mDro m).length := List.length_pos_iff.mpr he
        have Id := Im.2.2.2.2.2 _ (gD_mem (m := m) (j := (mDro m).length - 1) (by omega))
        have Ir2 := I.2.2.2.2.2.2.1 _ (gR_mem Id.1)
        have h1 : dSha (gD0 m ((mDro m).length - 1)) ≤ 13 := by rw [Id.2.1]; exact Ir2.2.2.2.1
        have h2 := Ir.2.2.2.1
        unfold apart; split <;> omega
    unfold f_X2_reason_j60
    rw [gd_t (isC_eq c), f_unlike V Im I hq Ir, bd2_some]
    refine ⟨fun hn => ?_, fun hy => ?_⟩
    · have hle : (if mDro m = [] then 0 else apart (dSha (gD0 m ((mDro m).length - 1))) (rSha (gR S ri))) ≤ 1 := by
        split
        · omega
        · rename_i he; exact Nat.le_of_not_lt (fun z => hn ⟨he, z⟩)
      rw [if_pos (show nI _ ≤ (1 : Int32) from nI_le (b := 1) hle (by decide)), gd_t (isC_eq c), f_missing W V Im I hq Ir, bd2_some]
      by_cases h9 : rLeft (gR S ri) < wWaste S m (gR S ri) + mHei m
      · rw [if_neg (fun z => (miss_le (by omega) (by omega) (by omega)).mp z h9), if_pos h9]; rfl
      · rw [if_pos ((miss_le (by omega) (by omega) (by omega)).mpr h9), if_neg h9]; rfl
    · have hgt : ¬ (if mDro m = [] then 0 else apart (dSha (gD0 m ((mDro m).length - 1))) (rSha (gR S ri))) ≤ 1 := by
        rw [if_neg hy.1]; omega
      rw [if_neg (show ¬ nI _ ≤ (1 : Int32) from fun z => hgt ((nI_leI (b := 1) hap (by decide)).mp z))]; rfl
  unfold f_X2_reason wReason
  rw [gd_t (isC_eq c), g0, bd2_some]
  by_cases he : mDro m = []
  · rw [gn he]
    show (gd (isC h 4 a) _) = _
    rw [gd_t (isC_eq V.1), f_full V Im, bd2_some]
    by_cases hf : (mDro m).length = mNee m
    · rw [if_pos hf, if_neg (show ¬ (1 : Int32) = 0 by decide), if_pos hf]; rfl
    · rw [if_neg hf, if_pos rfl, if_neg hf, gtI_eq hq rfl, bd_some]
      cases hb : rBack (gR S ri) with
      | true => rw [if_neg (show ¬ nI (b01 true) = 0 by decide), if_pos rfl]; rfl
      | false =>
        rw [if_pos (show nI (b01 false) = 0 by decide), if_neg (by decide), if_neg (fun z => z.1 he), if_neg (fun z => z.1 he), if_neg (fun z => z.1 he)]
        show f_X2_reason_j60 w a q h = _
        exact fin.1 (fun z => z.1 he)
  · obtain ⟨v, hv, hvr⟩ := gs he
    have hl : 0 < (mDro m).length := List.length_pos_iff.mpr he
    have Id := Im.2.2.2.2.2 _ (gD_mem hl)
    have Iv := I.2.2.2.2.2.2.1 _ (gR_mem Id.1)
    have hBl := I.1
    rw [hv]
    show (gd (isC h 4 a) _) = _
    rw [gd_t (isC_eq V.1), f_full V Im, bd2_some]
    by_cases hf : (mDro m).length = mNee m
    · rw [if_pos hf, if_neg (show ¬ (1 : Int32) = 0 by decide), if_pos hf]; rfl
    · rw [if_neg hf, if_pos rfl, if_neg hf, gtI_eq hq rfl, bd_some]
      cases hb : rBack (gR S ri) with
      | true => rw [if_neg (show ¬ nI (b01 true) = 0 by decide), if_pos rfl]; rfl
      | false =>
        rw [if_pos (show nI (b01 false) = 0 by decide), if_neg (by decide), gtI_eq hvr rfl, bd_some, gtI_eq hq rfl, bd_some]
        by_cases h6 : rBlk (gR S (dRol (gD0 m 0))) = rBlk (gR S ri)
        · rw [if_pos (by rw [h6]), if_neg (fun z => z.2 h6)]
          show (bd (gtI h 9 v 2) _) = _
          rw [gtI_eq hvr rfl, bd_some, gtI_eq hq rfl, bd_some]
          have hc1 := hcol Id.1
          have hc2 := hcol hri
          by_cases h7 : rCol (gR S (dRol (gD0 m 0))) = rCol (gR S ri)
          · rw [if_pos (by rw [h7]), if_neg (fun z => z.2 h7)]
            by_cases h8 : mDro m ≠ [] ∧ 1 < apart (dSha (gD0 m ((mDro m).length - 1))) (rSha (gR S ri))
            · rw [if_pos h8, fin.2 h8]
            · rw [if_neg h8, fin.1 h8]
          · rw [if_neg (fun z => h7 ((nI_eq (by omega) (by omega)).mp z)), if_pos ⟨he, h7⟩]; rfl
        · rw [if_neg (fun z => h6 ((nI_eq (by have := Iv.1; omega) (by have := Ir.1; omega)).mp z)), if_pos ⟨he, h6⟩]; rfl
end RS
