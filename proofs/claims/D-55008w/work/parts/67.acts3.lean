/-! PURE LAW: mix, print -/
set_option maxRecDepth 100000
set_option maxHeartbeats 1000000
section AC3
variable {N : Nat} {h h' : AH} {w lb li lr lm : Nat} {S : WS} {xm : List Nat}
theorem gI_mem {i : Nat} (hi : i < (wsI S).length) : gI S i ∈ wsI S := by
  unfold gI; rw [List.getD_eq_getElem?_getD, List.getElem?_eq_getElem hi]; exact List.getElem_mem hi
theorem gB_mem {i : Nat} (hi : i < (wsB S).length) : gB S i ∈ wsB S := by
  unfold gB; rw [List.getD_eq_getElem?_getD, List.getElem?_eq_getElem hi]; exact List.getElem_mem hi
theorem gR_mem {i : Nat} (hi : i < (wsR S).length) : gR S i ∈ wsR S := by
  unfold gR; rw [List.getD_eq_getElem?_getD, List.getElem?_eq_getElem hi]; exact List.getElem_mem hi
theorem gM_mem {i : Nat} (hi : i < (wsM S).length) : gM S i ∈ wsM S := by
  unfold gM; rw [List.getD_eq_getElem?_getD, List.getElem?_eq_getElem hi]; exact List.getElem_mem hi
theorem x_mix {p q g : Int32} (wf : WF h) (E : EnvL h) (hN : N ≤ aZ h) (hB : aB h ≤ N) (W : WSh N h w S xm) (I : Inv S) :
    ∃ r h', f_X2_mix w p q g h = some (r, h') ∧ AnsD N w (pMix S p q g) r h' ∧ Ex (fun q => N ≤ q) h h' ∧ Co 6 300 h h' := by
  obtain ⟨lb, li, lr, lm, c⟩ := W.cell
  obtain ⟨X1, X2⟩ := x_ink (b := p) wf W I.2.1
  obtain ⟨Y1, Y2⟩ := x_ink (b := q) wf W I.2.1
  unfold f_X2_mix pMix
  rw [gd_t (isC_eq c)]
  cases hi : ixO p (wsI S).length with
  | none =>
    refine ansE (by cases ixO q (wsI S).length <;> rfl) wf (ci := 22) (by decide) ?_
    rw [X2 hi, bdX_r, outX_eq (aC_new_self _ _ _) wf.1 (by decide)]
  | some i =>
    obtain ⟨a, e1, ha⟩ := X1 i hi
    rw [e1, bdX_l, gd_t (isC_eq c)]
    cases hj : ixO q (wsI S).length with
    | none =>
      refine ansE rfl wf (ci := 22) (by decide) ?_
      rw [Y2 hj, bdX_r, outX_eq (aC_new_self _ _ _) wf.1 (by decide)]
    | some j =>
      obtain ⟨b, f1, hb⟩ := Y1 j hj
      obtain ⟨i1, rfl, i2⟩ := ixO_some hi
      obtain ⟨j1, rfl, j2⟩ := ixO_some hj
      have Ii := I.2.2.2.2.2.1 _ (gI_mem i1)
      have Ij := I.2.2.2.2.2.1 _ (gI_mem j1)
      obtain ⟨Ii1, Ii2, Ii3⟩ := Ii
      obtain ⟨Ij1, Ij2, Ij3⟩ := Ij
      rw [f1, bdX_l]
      have bad : ∀ {S0 : Int32}, S0 = 0 → (nI i = nI j ∨ (g < 1 ∨ 999 < g)) → ∃ r h', f_X2_mix_j35 w (nI i) (nI j) g a b S0 h = some (r, h') ∧ AnsD N w (if nI i = nI j ∨ (g < 1 ∨ 999 < g) then aIAE else if iCol (gI S i) ≠ iCol (gI S j) then aFail 13 (iCol (gI S j)) else if iGra (gI S i) < g.toNatClampNeg then aFail 3 (iGra (gI S i)) else aOk ((iSha (gI S j) * iGra (gI S j) + iSha (gI S i) * g.toNatClampNeg) / (iGra (gI S j) + g.toNatClampNeg)) (wsB S, ((wsI S).set i (iCol (gI S i), iSha (gI S i), iGra (gI S i) - g.toNatClampNeg)).set j (iCol (gI S j), (iSha (gI S j) * iGra (gI S j) + iSha (gI S i) * g.toNatClampNeg) / (iGra (gI S j) + g.toNatClampNeg), min 999 (iGra (gI S j) + g.toNatClampNeg)), wsR S, wsM S)) r h' ∧ Ex (fun q => N ≤ q) h h' ∧ Co 6 300 h h' := by
        intro S0 h0 hbad
        subst h0
        refine ansE (by rw [if_pos hbad]; rfl) wf (ci := 21) (by decide) ?_
        unfold f_X2_mix_j35
        rw [x_req0 wf, bdX_r, outX_eq (aC_new_self _ _ _) wf.1 (by decide)]
      by_cases h1 : nI i = nI j
      · rw [if_pos h1]; exact bad rfl (Or.inl h1)
      · rw [if_neg h1, f_inRange, bd2_some]
        by_cases h3 : g < 1 ∨ 999 < g
        · rw [if_pos h3, if_pos rfl]; exact bad rfl (Or.inr h3)
        · rw [if_neg h3, if_neg (show ¬ (1 : Int32) = 0 by decide)]
          show ∃ r h', _ ∧ AnsD N w (if nI i = nI j ∨ (g < 1 ∨ 999 < g) then aIAE else _) r h' ∧ _
          rw [if_neg (fun z => z.elim h1 h3)]
          obtain ⟨g9, hg9, rfl⟩ := nI_of (x := g) (fun z => h3 (Or.inl (Int32.lt_of_lt_of_le z (by decide))))
          have hg1 : 1 ≤ g9 := by
            refine Nat.le_of_not_lt (fun z => h3 (Or.inl ?_))
            show nI g9 < nI 1; exact nI_lt z (by decide)
          have hg2 : g9 ≤ 999 := Nat.le_of_not_lt (fun z => h3 (Or.inr (show nI 999 < nI g9 from nI_lt z hg9)))
          have hij : i ≠ j := fun z => h1 (by rw [z])
          rw [nI_clamp hg9]
          unfold f_X2_mix_j35
          rw [x_req1, bdX_l, gtI_eq ha rfl, bd_some, gtI_eq hb rfl, bd_some]
          by_cases h4 : iCol (gI S i) = iCol (gI S j)
          · rw [if_pos (by rw [h4]), if_neg (fun z => z h4)]
            unfold f_X2_mix_j56
            rw [gtI_eq hb rfl, bd_some, x_all1, bdX_l, gtI_eq ha rfl, bd_some]
            by_cases h5 : iGra (gI S i) < g9
            · rw [if_pos (nI_lt h5 hg9), if_pos h5]
              refine ansF rfl wf ?_
              unfold f_X2_mix_j80
              rw [gtI_eq ha rfl, bd_some, x_all0 wf, bdX_r, outX_eq (aC_new_self _ _ _) wf.1 (by decide)]; rfl
            · rw [if_neg (nI_nlt (Nat.le_of_not_lt h5) (by omega)), if_neg h5]
              unfold f_X2_mix_j80 f_X9_less nwX
              obtain ⟨y1, y2, y3, y4, y5, y6, y7, y8⟩ := newO wf E W (n := 3) (ci := 8) (fs := fsX9) rfl
              have ha1 := y8 ha
              rw [gtI_eq ha rfl, bd_some, x_all1, bdX_l, gtR_eq c rfl, bd_some, gd_t (isC_eq ha), bd2_some, gtI_eq ha1 rfl, bd_some, gtI_eq ha1 rfl, bd_some, gtI_eq ha1 rfl, bd_some, nI_sub (Nat.le_of_not_lt h5), mk_I wf, bd2_some, bd2_some]
              obtain ⟨z1, z2, z3, z4, z5, z6, z7, z8⟩ := newO wf E W (n := 3) (ci := 8) (fs := [.int (nI (iCol (gI S i))), .int (nI (iSha (gI S i))), .int (nI (iGra (gI S i) - g9))]) rfl
              generalize aNew h 3 (.inr (8, [.int (nI (iCol (gI S i))), .int (nI (iSha (gI S i))), .int (nI (iGra (gI S i) - g9))])) = k at *
              have hnb : isIk k (aZ h) (iCol (gI S i), iSha (gI S i), iGra (gI S i) - g9) := z5
              obtain ⟨x9, k2, e2, e3, e4, e5, e6, e7⟩ := wI_set z4 z3 (by omega) z2 (z8 c) i1 hnb
              have hx9 := e7 (by decide) e3
              have ck2 := e7 (by decide) (z8 c)
              have ha2 : isIk k2 a (gI S i) := e7 (by decide) (z8 ha)
              have hb2 : isIk k2 b (gI S j) := e7 (by decide) (z8 hb)
              have E2 := z3.exN z4 (by rw [z1.1]; exact hB) e5
              have hZ2 := e5.2.2.1
              unfold f_X9_mixed nwX
              obtain ⟨v1, v2, v3, v4, v5, v6, v7, v8⟩ := newO e5.wf E2 e4 (n := 3) (ci := 8) (fs := fsX9) rfl
              have hb3 := v8 hb2
              have hsum : nI (iGra (gI S j)) + nI g9 = nI (iGra (gI S j) + g9) := nI_add _ _
              have hdv : (nI (iSha (gI S j)) * nI (iGra (gI S j)) + nI (iSha (gI S i)) * nI g9) / nI (iGra (gI S j) + g9) = nI ((iSha (gI S j) * iGra (gI S j) + iSha (gI S i) * g9) / (iGra (gI S j) + g9)) := by
                have b1 : iSha (gI S j) * iGra (gI S j) ≤ 9 * 999 := Nat.mul_le_mul Ij2 Ij3
                have b2 : iSha (gI S i) * g9 ≤ 9 * 999 := Nat.mul_le_mul Ii2 hg2
                rw [nI_mul, nI_mul, nI_add, nI_div (by omega) (by omega)]
              rw [gd_t (wI_size z2 (z8 c)).2, e2, bd2_some, gd_t (isC_eq hx9), gtI_eq ha2 rfl, bd_some, gd_t (isC_eq hb2), gtI_eq hb2 rfl, bd_some, bd2_some, gtI_eq hb3 rfl, bd_some, gtI_eq hb3 rfl, bd_some, gtI_eq hb3 rfl, bd_some, hsum,
                gd_t (decide_eq_true (nI_ne0 (n := iGra (gI S j) + g9) (by omega) (by omega))), show (999 : Int32) = nI 999 from rfl, f_min _ (by omega) (by omega), bd2_some, hdv, mk_I e5.wf, bd2_some, bd2_some]
              obtain ⟨u1, u2, u3, u4, u5, u6, u7, u8⟩ := newO e5.wf E2 e4 (n := 3) (ci := 8) (fs := [.int (nI (iCol (gI S j))), .int (nI ((iSha (gI S j) * iGra (gI S j) + iSha (gI S i) * g9) / (iGra (gI S j) + g9))), .int (nI (min 999 (iGra (gI S j) + g9)))]) rfl
              generalize aNew k2 3 (.inr (8, [.int (nI (iCol (gI S j))), .int (nI ((iSha (gI S j) * iGra (gI S j) + iSha (gI S i) * g9) / (iGra (gI S j) + g9))), .int (nI (min 999 (iGra (gI S j) + g9)))])) = k3 at *
              have hnc : isIk k3 (aZ k2) (iCol (gI S j), (iSha (gI S j) * iGra (gI S j) + iSha (gI S i) * g9) / (iGra (gI S j) + g9), min 999 (iGra (gI S j) + g9)) := u5
              have ck3 := u8 ck2
              obtain ⟨x8, k4, d2, d3, d4, d5, d6, d7⟩ := wI_set u4 u3 (by omega) u2 ck3 (i := j) (by show j < ((wsI S).set i _).length; rw [List.length_set]; exact j1) hnc
              have hx8 := d7 (by decide) d3
              have hnc4 := d7 (by decide) hnc
              rw [gtR_eq ck3 rfl, bd_some, gd_t (wI_size u2 ck3).2, d2, bd2_some, gd_t (isC_eq hx8), gtI_eq hnc4 rfl, bd_some]
              refine ⟨_, _, rfl, ⟨rfl, xm, d4⟩, (((z1.mono (fun _ _ z => z.elim)).tr e5).tr (u1.mono (fun _ _ z => z.elim))).tr d5, ?_⟩
              unfold Co at e6 d6 ⊢; omega
          · rw [if_neg (fun z => h4 ((nI_eq (by omega) (by omega)).mp z)), if_pos (fun z => h4 z)]
            refine ansF rfl wf ?_
            unfold f_X2_mix_j56
            rw [gtI_eq hb rfl, bd_some, x_all0 wf, bdX_r, outX_eq (aC_new_self _ _ _) wf.1 (by decide)]; rfl
end AC3
