/-! PURE LAW: print -/
set_option maxRecDepth 100000
set_option maxHeartbeats 1000000
section AC4
variable {N : Nat} {h h' : AH} {w lb li lr lm : Nat} {S : WS} {xm : List Nat}
theorem x_print {p q g : Int32} (wf : WF h) (E : EnvL h) (hN : N ≤ aZ h) (hB : aB h ≤ N) (W : WSh N h w S xm) (I : Inv S) :
    ∃ r h', f_X2_print w p q g h = some (r, h') ∧ AnsD N w (pPrint S p q g) r h' ∧ Ex (fun q => N ≤ q) h h' ∧ Co 6 300 h h' := by
  obtain ⟨lb, li, lr, lm, c⟩ := W.cell
  obtain ⟨X1, X2⟩ := x_block (b := p) wf W I.1
  obtain ⟨Y1, Y2⟩ := x_ink (b := q) wf W I.2.1
  have hRl := I.2.2.1
  unfold f_X2_print pPrint
  rw [gd_t (isC_eq c)]
  cases hi : ixO p (wsB S).length with
  | none =>
    refine ansE (by cases ixO q (wsI S).length <;> rfl) wf (ci := 22) (by decide) ?_
    rw [X2 hi, bdX_r, outX_eq (aC_new_self _ _ _) wf.1 (by decide)]
  | some i =>
    obtain ⟨a, e1, ha⟩ := X1 i hi
    rw [e1, bdX_l, gd_t (isC_eq c)]
    cases hj : ixO q (wsI S).length with
    | none =>
      refine ansE rfl wf (ci := 22) (by decide) ?_
      rw [Y2 hj, bdX_r, outX_eq (aC_new_self _ _ _) wf.1 (by decide)]
    | some j =>
      obtain ⟨b, f1, hb⟩ := Y1 j hj
      obtain ⟨i1, rfl, i2⟩ := ixO_some hi
      obtain ⟨j1, rfl, j2⟩ := ixO_some hj
      obtain ⟨Ii1, Ii2, Ii3⟩ := I.2.2.2.2.1 _ (gB_mem i1)
      obtain ⟨Ij1, Ij2, Ij3⟩ := I.2.2.2.2.2.1 _ (gI_mem j1)
      rw [f1, bdX_l, f_inRange, bd2_some]
      show ∃ r h', _ ∧ AnsD N w (if g < 100 ∨ 1000 < g then aIAE else _) r h' ∧ _
      by_cases h3 : g < 100 ∨ 1000 < g
      · rw [if_pos h3, if_pos h3]
        refine ansE rfl wf (ci := 21) (by decide) ?_
        rw [x_req0 wf, bdX_r, outX_eq (aC_new_self _ _ _) wf.1 (by decide)]
      · rw [if_neg h3, if_neg h3, x_req1, bdX_l, gtI_eq ha rfl, bd_some]
        obtain ⟨g9, hg9, rfl⟩ := nI_of (x := g) (fun z => h3 (Or.inl (Int32.lt_of_lt_of_le z (by decide))))
        have hg2 : g9 ≤ 1000 := Nat.le_of_not_lt (fun z => h3 (Or.inr (show nI 1000 < nI g9 from nI_lt z hg9)))
        have d20 : (1 : Int32) + nI g9 / 20 = nI (1 + g9 / 20) := by
          show nI 1 + nI g9 / nI 20 = _
          rw [nI_div hg9 (by omega), nI_add]
        rw [nI_clamp hg9, d20]
        by_cases h4 : 100 ≤ bWear (gB S i)
        · rw [if_pos (show (100 : Int32) ≤ nI (bWear (gB S i)) from nI_le (a := 100) h4 (by omega)), if_pos h4]
          refine ansF rfl wf ?_
          unfold f_X2_print_j49
          rw [gtI_eq ha rfl, bd_some, x_all0 wf, bdX_r, outX_eq (aC_new_self _ _ _) wf.1 (by decide)]; rfl
        · rw [if_neg (show ¬ (100 : Int32) ≤ nI (bWear (gB S i)) from nI_ge (b := 100) (by omega) (by omega)), if_neg h4]
          unfold f_X2_print_j49
          rw [gtI_eq ha rfl, bd_some, x_all1, bdX_l, gtI_eq hb rfl, bd_some]
          by_cases h5 : iGra (gI S j) < 1 + g9 / 20
          · rw [if_pos (nI_lt h5 (by omega)), if_pos h5]
            refine ansF rfl wf ?_
            unfold f_X2_print_j73
            rw [gtI_eq hb rfl, bd_some, x_all0 wf, bdX_r, outX_eq (aC_new_self _ _ _) wf.1 (by decide)]; rfl
          · rw [if_neg (nI_nlt (Nat.le_of_not_lt h5) (by omega)), if_neg h5]
            obtain ⟨hs, hc⟩ := wR_size W c
            unfold f_X2_print_j73
            rw [gtI_eq hb rfl, bd_some, x_all1, bdX_l, gtR_eq c rfl, bd_some, gd_t hc, hs, bd2_some]
            by_cases h6 : 24 ≤ (wsR S).length
            · rw [if_pos (show (24 : Int32) ≤ nI (wsR S).length from nI_le (a := 24) h6 (by omega)), if_pos h6]
              refine ansF rfl wf ?_
              unfold f_X2_print_j101
              rw [x_all0 wf, bdX_r, outX_eq (aC_new_self _ _ _) wf.1 (by decide)]; rfl
            · rw [if_neg (show ¬ (24 : Int32) ≤ nI (wsR S).length from nI_ge (b := 24) (by omega) (by omega)), if_neg h6]
              unfold f_X2_print_j101 nwX f_X10_init
              obtain ⟨y1, y2, y3, y4, y5, y6, y7, y8⟩ := newO wf E W (n := 7) (ci := 9) (fs := fsX10) rfl
              have ha1 := y8 ha
              have hb1 := y8 hb
              have d25 : nI (iSha (gI S j)) + nI (bWear (gB S i)) / 25 = nI (iSha (gI S j) + bWear (gB S i) / 25) := by
                show _ + nI (bWear (gB S i)) / nI 25 = _
                rw [nI_div (by omega) (by omega), nI_add]
              rw [x_all1, bdX_l, gtR_eq c rfl, bd_some, bd2_some, gtI_eq hb1 rfl, bd_some, gtI_eq hb1 rfl, bd_some, gtI_eq ha1 rfl, bd_some, d25, show (0 : Int32) = nI (b01 false) from rfl, mk_R wf, bd2_some, bd2_some]
              obtain ⟨z1, z2, z3, z4, z5, z6, z7, z8⟩ := newO wf E W (n := 7) (ci := 9) (fs := [.int (nI i), .int (nI j), .int (nI (iCol (gI S j))), .int (nI (iSha (gI S j) + bWear (gB S i) / 25)), .int (nI g9), .int (nI (b01 false)), .int (nI (b01 false))]) rfl
              generalize aNew h 7 (.inr (9, [.int (nI i), .int (nI j), .int (nI (iCol (gI S j))), .int (nI (iSha (gI S j) + bWear (gB S i) / 25)), .int (nI g9), .int (nI (b01 false)), .int (nI (b01 false))])) = k at *
              have hnr : isRl k (aZ h) (i, j, iCol (gI S j), iSha (gI S j) + bWear (gB S i) / 25, g9, 0, false) := z5
              obtain ⟨k2, e2, e4, e5, e6, e7⟩ := wR_add z4 z3 (by omega) z2 (z8 c) (by omega) hnr
              have c2 := e7 (by decide) (z8 c)
              have ha2 : isB k2 a (gB S i) := e7 (by decide) (z8 ha)
              have hb2 : isIk k2 b (gI S j) := e7 (by decide) (z8 hb)
              have E2 := z3.exN z4 (by rw [z1.1]; exact hB) e5
              have hZ2 := e5.2.2.1
              have hB2 : aB k2 ≤ N := by rw [e5.1, z1.1]; exact hB
              rw [gd_t (wR_size z2 (z8 c)).2, e2, bd2_some, gtR_eq c2 rfl, bd_some, gd_t (isC_eq ha2)]
              unfold f_X8_worn nwX
              obtain ⟨v1, v2, v3, v4, v5, v6, v7, v8⟩ := newO e5.wf E2 e4 (n := 3) (ci := 7) (fs := fsX8) rfl
              have ha3 := v8 ha2
              have d100 : nI (bWear (gB S i)) + nI g9 / 100 = nI (bWear (gB S i) + g9 / 100) := by
                show _ + nI g9 / nI 100 = _
                rw [nI_div hg9 (by omega), nI_add]
              rw [bd2_some, gtI_eq ha3 rfl, bd_some, gtI_eq ha3 rfl, bd_some, gtI_eq ha3 rfl, bd_some, d100, show (100 : Int32) = nI 100 from rfl, f_min _ (by omega) (by omega), bd2_some, mk_B e5.wf, bd2_some, bd2_some]
              obtain ⟨u1, u2, u3, u4, u5, u6, u7, u8⟩ := newO e5.wf E2 e4 (n := 3) (ci := 7) (fs := [.int (nI (bRep (gB S i))), .int (nI (b01 (bHalf (gB S i)))), .int (nI (min 100 (bWear (gB S i) + g9 / 100)))]) rfl
              generalize aNew k2 3 (.inr (7, [.int (nI (bRep (gB S i))), .int (nI (b01 (bHalf (gB S i)))), .int (nI (min 100 (bWear (gB S i) + g9 / 100)))])) = k3 at *
              have hnb : isB k3 (aZ k2) (bRep (gB S i), bHalf (gB S i), min 100 (bWear (gB S i) + g9 / 100)) := u5
              have c3 := u8 c2
              obtain ⟨x9, k4, m2, m3, m4, m5, m6, m7⟩ := wB_set u4 u3 (by omega) u2 c3 (i := i) i1 hnb
              have hx9 := m7 (by decide) m3
              have c4 := m7 (by decide) c3
              have hb4 : isIk k4 b (gI S j) := m7 (by decide) (u8 hb2)
              have E4 := u3.exN u4 (by rw [u1.1]; exact hB2) m5
              have hZ4 := m5.2.2.1
              rw [gd_t (wB_size u2 c3).2, m2, bd2_some, gd_t (isC_eq hx9), gtR_eq c4 rfl, bd_some, gd_t (isC_eq hb4)]
              unfold f_X9_less nwX
              obtain ⟨s1, s2, s3, s4, s5, s6, s7, s8⟩ := newO m5.wf E4 m4 (n := 3) (ci := 8) (fs := fsX9) rfl
              have hb5 := s8 hb4
              rw [bd2_some, gtI_eq hb5 rfl, bd_some, gtI_eq hb5 rfl, bd_some, gtI_eq hb5 rfl, bd_some, nI_sub (Nat.le_of_not_lt h5), mk_I m5.wf, bd2_some, bd2_some]
              obtain ⟨t1, t2, t3, t4, t5, t6, t7, t8⟩ := newO m5.wf E4 m4 (n := 3) (ci := 8) (fs := [.int (nI (iCol (gI S j))), .int (nI (iSha (gI S j))), .int (nI (iGra (gI S j) - (1 + g9 / 20)))]) rfl
              generalize aNew k4 3 (.inr (8, [.int (nI (iCol (gI S j))), .int (nI (iSha (gI S j))), .int (nI (iGra (gI S j) - (1 + g9 / 20)))])) = k5 at *
              have hni : isIk k5 (aZ k4) (iCol (gI S j), iSha (gI S j), iGra (gI S j) - (1 + g9 / 20)) := t5
              have c5 := t8 c4
              obtain ⟨x8, k6, n2, n3, n4, n5, n6, n7⟩ := wI_set t4 t3 (by omega) t2 c5 (i := j) j1 hni
              have hx8 := n7 (by decide) n3
              have c6 := n7 (by decide) c5
              obtain ⟨hs6, hc6⟩ := wR_size n4 c6
              rw [gd_t (wI_size t2 c5).2, n2, bd2_some, gd_t (isC_eq hx8), gtR_eq c6 rfl, bd_some, gd_t hc6, hs6, bd2_some]
              refine ⟨_, _, rfl, ⟨?_, xm, n4⟩, (((((z1.mono (fun _ _ z => z.elim)).tr e5).tr (u1.mono (fun _ _ z => z.elim))).tr m5).tr (t1.mono (fun _ _ z => z.elim))).tr n5, ?_⟩
              · show Sum.inl (nI (wsR S ++ [(i, j, iCol (gI S j), iSha (gI S j) + bWear (gB S i) / 25, g9, 0, false)]).length - 1) = Sum.inl (nI (wsR S).length)
                rw [List.length_append]; exact congrArg Sum.inl (nI_pred _)
              · unfold Co at e6 m6 n6 ⊢; omega
end AC4
