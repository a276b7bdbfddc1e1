/-! PURE LAW: where drops begin, waste, reasons (nothing is written) -/
set_option maxRecDepth 100000
set_option maxHeartbeats 1000000
section RR
variable {N : Nat} {h h' : AH} {w lb li lr lm a ld : Nat} {S : WS} {xm xd : List Nat} {m : WM}
theorem f_within {b x : Nat} {v : WB} (hb : isB h b v) (h1 : 0 < bRep v) (h2 : bRep v < 2 ^ 31) (hx : x < 2 ^ 31) : f_X11_within b (nI x) h = some (nI (x % bRep v), h) := by
  unfold f_X11_within f_X8_repeat f_X11_remainder
  rw [gd_t (isC_eq hb), gtI_eq hb rfl, bd_some, bd2_some, gd_t (decide_eq_true (nI_ne0 h1 h2)), bd2_some, nI_rem hx h2]
theorem gD_mem {j : Nat} (hj : j < (mDro m).length) : gD0 m j ∈ mDro m := by
  unfold gD0; rw [List.getD_eq_getElem?_getD, List.getElem?_eq_getElem hj]; exact List.getElem_mem hj
theorem f_first (W : WSh N h w S xm) (V : RmV h a m ld xd) (Im : InvM S m) : ∃ o, f_X2_first w a h = some (o, h) ∧ (mDro m = [] → o = none) ∧ (mDro m ≠ [] → ∃ q, o = some q ∧ isRl h q (gR S (dRol (gD0 m 0)))) := by
  obtain ⟨lb, li, lr, lm, c⟩ := W.cell
  unfold f_X2_first
  rw [gtR_eq V.1 rfl, bd_some, gd_t (rv_size V).2, rv_empty V, bd2_some]
  by_cases he : mDro m = []
  · rw [if_pos he, if_neg (show ¬ (1 : Int32) = 0 by decide)]
    exact ⟨none, rfl, fun _ => rfl, fun z => absurd he z⟩
  · rw [if_neg he, if_pos rfl]
    have hl : 0 < (mDro m).length := List.length_pos_iff.mpr he
    obtain ⟨d, g1, hd⟩ := rv_get V hl
    have Id := Im.2.2.2.2.2 _ (gD_mem hl)
    obtain ⟨q, g2, hq⟩ := wR_get W c Id.1
    rw [gtR_eq c rfl, bd_some, gtR_eq V.1 rfl, bd_some, gd_t (rv_size V).2, show (0 : Int32) = nI 0 from rfl, g1, bd2_some, gd_t (isC_eq hd), gtI_eq hd rfl, bd_some, gd_t (wR_size W c).2, g2, bd2_some, gd_t (isC_eq hq)]
    exact ⟨some q, rfl, fun z => absurd z he, fun _ => ⟨q, rfl, hq⟩⟩
theorem f_full (V : RmV h a m ld xd) (Im : InvM S m) : f_X5_isFull a h = some (if (mDro m).length = mNee m then 1 else 0, h) := by
  unfold f_X5_isFull
  have := Im.2.2.2.2.1
  have := Im.2.2.2.1
  rw [gtR_eq V.1 rfl, bd_some, gd_t (rv_size V).2, (rv_size V).1, bd2_some, gtI_eq V.1 rfl, bd_some]
  by_cases hf : (mDro m).length = mNee m
  · rw [if_pos (by rw [hf]), if_pos hf]
  · rw [if_neg (fun z => hf ((nI_eq (by omega) (by omega)).mp z)), if_neg hf]
theorem f_left {q : Nat} {r : WR} (hq : isRl h q r) (hr : rUsed r ≤ rLen r) : f_X10_left q h = some (nI (rLeft r), h) := by
  unfold f_X10_left rLeft
  rw [gtI_eq hq rfl, bd_some]
  cases hb : rBack r with
  | true => rw [if_neg (show ¬ nI (b01 true) = 0 by decide), if_pos rfl]; rfl
  | false => rw [if_pos (show nI (b01 false) = 0 by decide), gtI_eq hq rfl, bd_some, gtI_eq hq rfl, bd_some, nI_sub hr, if_neg (by decide)]
theorem par2 {n : Nat} (hn : n < 2 ^ 31) : (nI n - nI n / (2 : Int32) * (2 : Int32)) = nI (n % 2) := nI_rem (a := n) (b := 2) hn (by omega)
theorem f_Bbegin {b x n : Nat} {v : WB} (hb : isB h b v) (h1 : 0 < bRep v) (h2 : bRep v ≤ 90) (hx : x ≤ 100000) (hn : n < 2 ^ 31) :
    f_X8_begin b (nI x) (nI n) h = some (nI (if bHalf v = true ∧ n % 2 = 1 then (x + bRep v / 2) % bRep v else x), h) := by
  unfold f_X8_begin
  rw [gtI_eq hb rfl, bd_some]
  cases hf : bHalf v with
  | false => rw [if_pos (show nI (b01 false) = 0 by decide), if_neg (fun z => by cases z.1)]
  | true =>
    rw [if_neg (show ¬ nI (b01 true) = 0 by decide), par2 hn]
    by_cases h3 : n % 2 = 1
    · rw [if_pos (by rw [h3]; rfl), if_pos ⟨rfl, h3⟩, gtI_eq hb rfl, bd_some, gd_t (isC_eq hb), show (2 : Int32) = nI 2 from rfl, nI_div (by omega) (by omega), nI_add, f_within hb h1 (by omega) (by omega)]; rfl
    · rw [if_neg (show ¬ nI (n % 2) = 1 from fun z => h3 ((nI_eq (a := n % 2) (b := 1) (by omega) (by omega)).mp z)), if_neg (fun z => h3 z.2)]
theorem f_begin (W : WSh N h w S xm) (V : RmV h a m ld xd) (Im : InvM S m) (I : Inv S) {n : Nat} (hn : n ≤ 100) :
    f_X2_begin w a (nI n) h = some (if n = 0 then -1 else nI (wBegin S m n), h) ∨ (mDro m = [] ∧ n ≠ 0) := by
  by_cases h0 : n = 0
  · left
    subst h0
    unfold f_X2_begin
    rw [if_pos (show nI 0 = 0 from rfl), if_pos rfl]
  · by_cases he : mDro m = []
    · exact Or.inr ⟨he, h0⟩
    · left
      obtain ⟨lb, li, lr, lm, c⟩ := W.cell
      obtain ⟨o, g0, -, g1⟩ := f_first W V Im
      obtain ⟨q, rfl, hq⟩ := g1 he
      have hl : 0 < (mDro m).length := List.length_pos_iff.mpr he
      obtain ⟨d, g2, hd⟩ := rv_get V hl
      have Id := Im.2.2.2.2.2 _ (gD_mem hl)
      have Ir := I.2.2.2.2.2.2.1 _ (gR_mem Id.1)
      obtain ⟨b, g3, hb⟩ := wB_get W c Ir.1
      have Ib := I.2.2.2.2.1 _ (gB_mem Ir.1)
      unfold f_X2_begin
      rw [if_neg (nI_ne0 (by omega) (by omega)), if_neg h0, gtR_eq c rfl, bd_some, gd_t (isC_eq c), g0, bd2_some]
      show (bd (gtI h 9 q 0) fun v7 => _) = _
      rw [gtI_eq hq rfl, bd_some, gd_t (wB_size W c).2, g3, bd2_some, gd_t (isC_eq hb), gtR_eq V.1 rfl, bd_some, gd_t (rv_size V).2, show (0 : Int32) = nI 0 from rfl, g2, bd2_some, gd_t (isC_eq hd), gtI_eq hd rfl, bd_some, gd_t (isC_eq hb), f_Bbegin hb (by have := Ib.1; omega) Ib.2.1 (by have := Id.2.2.1; omega) (by omega)]
      rfl
theorem nI_m1 {n : Nat} (hn : n < 2 ^ 31) : ¬ nI n = (-1 : Int32) := by
  intro z
  have := congrArg Int32.toInt z
  rw [nI_toInt hn] at this
  have h1 : (-1 : Int32).toInt = -1 := rfl
  rw [h1] at this; omega
/-- what must be cut off -/
theorem f_waste {q u : Nat} {r : WR} (W : WSh N h w S xm) (V : RmV h a m ld xd) (Im : InvM S m) (I : Inv S) (hq : isRl h q r) (Ir : InvR S r) (hu : u ≤ 100000) :
    (mDro m = [] → f_X2_waste w q (nI u) (-1) h = some (0, h)) ∧
    (∀ {t : Nat}, t ≤ 100000 → f_X2_waste w q (nI u) (nI t) h = some (nI ((t + bRep (gB S (rBlk r)) - u % bRep (gB S (rBlk r))) % bRep (gB S (rBlk r))), h)) := by
  obtain ⟨lb, li, lr, lm, c⟩ := W.cell
  obtain ⟨b, g3, hb⟩ := wB_get W c Ir.1
  have Ib := I.2.2.2.2.1 _ (gB_mem Ir.1)
  obtain ⟨b1, b2, b3⟩ := Ib
  have hm : u % bRep (gB S (rBlk r)) < bRep (gB S (rBlk r)) := Nat.mod_lt _ (by omega)
  unfold f_X2_waste
  refine ⟨fun _ => by rw [gtR_eq c rfl, bd_some, gtI_eq hq rfl, bd_some, gd_t (wB_size W c).2, g3, bd2_some, gd_t (isC_eq hb), if_pos rfl], fun {t} ht => ?_⟩
  rw [gtR_eq c rfl, bd_some, gtI_eq hq rfl, bd_some, gd_t (wB_size W c).2, g3, bd2_some, gd_t (isC_eq hb), if_neg (nI_m1 (by omega)), gd_t (isC_eq hb), f_within hb (by omega) (by omega) (by omega), bd2_some, gd_t (isC_eq hb)]
  unfold f_X11_between f_X8_repeat
  have e1 : nI t - nI (u % bRep (gB S (rBlk r))) + nI (bRep (gB S (rBlk r))) = nI (t + bRep (gB S (rBlk r)) - u % bRep (gB S (rBlk r))) := by
    rw [← nI_sub (Nat.le_trans (Nat.le_of_lt hm) (Nat.le_add_left _ _)), ← nI_add, Int32.sub_eq_add_neg, Int32.sub_eq_add_neg, Int32.add_assoc, Int32.add_assoc, Int32.add_comm (-_)]
  rw [gd_t (isC_eq hb), gtI_eq hb rfl, bd_some, bd2_some, gd_t (isC_eq hb), e1, f_within hb (by omega) (by omega) (by omega)]
  rfl
end RR
