/-! walks (printed by gen/printall.py) -/
set_option maxRecDepth 100000
set_option maxHeartbeats 1000000
/-! BlockPapersLaw.block(LBlockPapers;IZ[J)I  -/
abbrev G_X0_block (D : va_G) (l : Launch) (as : List Value) (h0 hF : AH) (o : Out) : CT := (D, l, (yX0_block.cls, yX0_block, cX0_block, 5, (Option.some .int), 15, 366, [(0, 10, 13, 13), (0, 10, 17, 15)]), as, h0, hF, o)
theorem hc_X0_block {D : va_G} {l : Launch} {as : List Value} {h0 hF : AH} {o : Out} : gC (G_X0_block D l as h0 hF o) = cX0_block := rfl
theorem ho_X0_block {D : va_G} {l : Launch} {as : List Value} {h0 hF : AH} {o : Out} : gO (G_X0_block D l as h0 hF o) = "BlockPapersLaw" := rfl
def f_X0_block (x0 : Nat) (x1 : Int32) (x2 : Int32) (x3 : Nat) (h : AH) : Option (Int32 × AH) :=
  gd (isC h 0 x0) <|
  bdX (f_X1_block x0 x1 x2 h) (fun zq6 h3 =>
    if isX h3 21 zq6 = true then (
      some ((1 : Int32), h3)
    ) else (
    if isX h3 26 zq6 = true then (
      some ((2 : Int32), h3)
    ) else (
    none))
  ) fun r2 h3 =>
  bd (stL h3 x3 (0 : Int32) r2.toInt64) fun h5 =>
  some ((0 : Int32), h5)
theorem v_X0_block (D : va_G) (l : Launch) (hl : l.stackTraces = false) (as : List Value) (h0 : AH) {r : Int32} {hF : AH} (x0 : Nat) (x1 : Int32) (x2 : Int32) (x3 : Nat) (h : AH) (e : f_X0_block x0 x1 x2 x3 h = some (r, hF)) : V (G_X0_block D l as h0 hF (oI r)) h 0 [(0, .ref x0), (1, .int x1), (2, .int x2), (3, .ref x3)] [] := by
  unfold f_X0_block at e
  refine v_aload_n (pc' := 1) hc_X0_block dX0_block_0 rfl rfl 3 rfl ?_
  refine v_iconst (pc' := 2) (v := 0) hc_X0_block dX0_block_1 rfl rfl ?_
  refine v_aload_n (pc' := 3) hc_X0_block dX0_block_2 rfl rfl 0 rfl ?_
  refine v_iload_n (pc' := 4) hc_X0_block dX0_block_3 rfl rfl 1 rfl ?_
  refine v_iload_n (pc' := 5) hc_X0_block dX0_block_4 rfl rfl 2 rfl ?_
  obtain ⟨c1, e⟩ := gd_of e
  rcases bdX_of e with ⟨r2, h3, e4, e⟩ | ⟨zq6, h3, e4, e⟩
  · refine k_V (pc' := 8) (ci := 0) (n := 2) hc_X0_block ho_X0_block rfl c1 (w_X1_block D l hl x0 x1 x2 h e4) (wA_l q925) q926 (wA_l q927) q75 q928 hy_115 ⟨Nat.le_of_ble_eq_true rfl, Nat.le_of_ble_eq_true rfl⟩ rfl rfl (Nat.le_of_ble_eq_true rfl) dX0_block_5 rfl (kS ?_) kN
    refine v_i2l (pc' := 9) hc_X0_block dX0_block_8 rfl ?_
    refine v_last (pc' := 10) hc_X0_block dX0_block_9 rfl e (fun h5 _ e => ?_)
    refine v_goto (pt := 21) hc_X0_block dX0_block_10 rfl ?_
    refine v_iconst (pc' := 22) (v := 0) hc_X0_block dX0_block_21 rfl rfl ?_
    obtain ⟨rfl, rfl⟩ := ret_of e
    exact v_iret hc_X0_block rfl dX0_block_22 rfl rfl
  · refine k_V (pc' := 8) (ci := 0) (n := 2) hc_X0_block ho_X0_block rfl c1 (w_X1_block D l hl x0 x1 x2 h e4) (wA_l q925) q926 (wA_l q927) q75 q928 hy_115 ⟨Nat.le_of_ble_eq_true rfl, Nat.le_of_ble_eq_true rfl⟩ rfl rfl (Nat.le_of_ble_eq_true rfl) dX0_block_5 rfl kM (kX ?_)
    rcases ite_cs e with ⟨c7, e⟩ | ⟨_, e⟩
    · refine v_catchH (ci := 21) (nm := "java/lang/IllegalArgumentException") (pre := []) (x := (0, 10, 13, 13)) (suf := [(0, 10, 17, 15)]) ho_X0_block c7 rfl rfl (by decide) (by decide) hpN q923 q274 ?_
      refine v_astore (pc' := 15) (lv' := [(4, .ref zq6), (0, .ref x0), (1, .int x1), (2, .int x2), (3, .ref x3)]) hc_X0_block dX0_block_13 rfl (Nat.le_of_ble_eq_true rfl) rfl ?_
      refine v_iconst (pc' := 16) (v := 1) hc_X0_block dX0_block_15 rfl rfl ?_
      obtain ⟨rfl, rfl⟩ := ret_of e
      exact v_iret hc_X0_block rfl dX0_block_16 rfl rfl
    rcases ite_cs e with ⟨c8, e⟩ | ⟨_, e⟩
    · refine v_catchH (ci := 26) (nm := "java/lang/UnsupportedOperationException") (pre := [(0, 10, 13, 13)]) (x := (0, 10, 17, 15)) (suf := []) ho_X0_block c8 rfl rfl (by decide) (by decide) (hpC (Or.inr ⟨by decide, "java/lang/IllegalArgumentException", q923, by decide +kernel⟩) hpN) q924 q1541 ?_
      refine v_astore (pc' := 19) (lv' := [(4, .ref zq6), (0, .ref x0), (1, .int x1), (2, .int x2), (3, .ref x3)]) hc_X0_block dX0_block_17 rfl (Nat.le_of_ble_eq_true rfl) rfl ?_
      refine v_iconst (pc' := 20) (v := 2) hc_X0_block dX0_block_19 rfl rfl ?_
      obtain ⟨rfl, rfl⟩ := ret_of e
      exact v_iret hc_X0_block rfl dX0_block_20 rfl rfl
    exact nomatch e
theorem w_X0_block (D : va_G) (l : Launch) (hl : l.stackTraces = false) (x0 : Nat) (x1 : Int32) (x2 : Int32) (x3 : Nat) (h : AH) {r : Int32} {hF : AH} (e : f_X0_block x0 x1 x2 x3 h = some (r, hF)) : MetV D l yX0_block (Cond.codeWith yX0_block cX0_block 5 (Option.some .int) [(0, 10, 13, 13), (0, 10, 17, 15)]) 15 366 [.ref x0, .int x1, .int x2, .ref x3] h hF (oI r) :=
  met_ofHF (by decide +kernel) hl (Nat.le_of_ble_eq_true rfl) rfl (v_X0_block D l hl [.ref x0, .int x1, .int x2, .ref x3] h x0 x1 x2 x3 h e)
/-! BlockPapersLaw.blockOf(LBlockPapers;II[J)I  -/
abbrev G_X0_blockOf (D : va_G) (l : Launch) (as : List Value) (h0 hF : AH) (o : Out) : CT := (D, l, (yX0_blockOf.cls, yX0_blockOf, cX0_blockOf, 5, (Option.some .int), 9, 160, [(0, 10, 13, 21), (0, 10, 17, 13)]), as, h0, hF, o)
theorem hc_X0_blockOf {D : va_G} {l : Launch} {as : List Value} {h0 hF : AH} {o : Out} : gC (G_X0_blockOf D l as h0 hF o) = cX0_blockOf := rfl
theorem ho_X0_blockOf {D : va_G} {l : Launch} {as : List Value} {h0 hF : AH} {o : Out} : gO (G_X0_blockOf D l as h0 hF o) = "BlockPapersLaw" := rfl
def f_X0_blockOf (x0 : Nat) (x1 : Int32) (x2 : Int32) (x3 : Nat) (h : AH) : Option (Int32 × AH) :=
  gd (isC h 0 x0) <|
  bdX (f_X1_blockOf x0 x1 x2 h) (fun zq6 h3 =>
    if isX h3 22 zq6 = true then (
      some ((1 : Int32), h3)
    ) else (
    if isX h3 21 zq6 = true then (
      some ((2 : Int32), h3)
    ) else (
    none))
  ) fun r2 h3 =>
  bd (stL h3 x3 (0 : Int32) r2.toInt64) fun h5 =>
  some ((0 : Int32), h5)
theorem v_X0_blockOf (D : va_G) (l : Launch) (hl : l.stackTraces = false) (as : List Value) (h0 : AH) {r : Int32} {hF : AH} (x0 : Nat) (x1 : Int32) (x2 : Int32) (x3 : Nat) (h : AH) (e : f_X0_blockOf x0 x1 x2 x3 h = some (r, hF)) : V (G_X0_blockOf D l as h0 hF (oI r)) h 0 [(0, .ref x0), (1, .int x1), (2, .int x2), (3, .ref x3)] [] := by
  unfold f_X0_blockOf at e
  refine v_aload_n (pc' := 1) hc_X0_blockOf dX0_blockOf_0 rfl rfl 3 rfl ?_
  refine v_iconst (pc' := 2) (v := 0) hc_X0_blockOf dX0_blockOf_1 rfl rfl ?_
  refine v_aload_n (pc' := 3) hc_X0_blockOf dX0_blockOf_2 rfl rfl 0 rfl ?_
  refine v_iload_n (pc' := 4) hc_X0_blockOf dX0_blockOf_3 rfl rfl 1 rfl ?_
  refine v_iload_n (pc' := 5) hc_X0_blockOf dX0_blockOf_4 rfl rfl 2 rfl ?_
  obtain ⟨c1, e⟩ := gd_of e
  rcases bdX_of e with ⟨r2, h3, e4, e⟩ | ⟨zq6, h3, e4, e⟩
  · refine k_V (pc' := 8) (ci := 0) (n := 2) hc_X0_blockOf ho_X0_blockOf rfl c1 (w_X1_blockOf D l hl x0 x1 x2 h e4) (wA_l q1558) q1559 (wA_l q1560) q75 q1561 hy_128 ⟨Nat.le_of_ble_eq_true rfl, Nat.le_of_ble_eq_true rfl⟩ rfl rfl (Nat.le_of_ble_eq_true rfl) dX0_blockOf_5 rfl (kS ?_) kN
    refine v_i2l (pc' := 9) hc_X0_blockOf dX0_blockOf_8 rfl ?_
    refine v_last (pc' := 10) hc_X0_blockOf dX0_blockOf_9 rfl e (fun h5 _ e => ?_)
    refine v_goto (pt := 21) hc_X0_blockOf dX0_blockOf_10 rfl ?_
    refine v_iconst (pc' := 22) (v := 0) hc_X0_blockOf dX0_blockOf_21 rfl rfl ?_
    obtain ⟨rfl, rfl⟩ := ret_of e
    exact v_iret hc_X0_blockOf rfl dX0_blockOf_22 rfl rfl
  · refine k_V (pc' := 8) (ci := 0) (n := 2) hc_X0_blockOf ho_X0_blockOf rfl c1 (w_X1_blockOf D l hl x0 x1 x2 h e4) (wA_l q1558) q1559 (wA_l q1560) q75 q1561 hy_128 ⟨Nat.le_of_ble_eq_true rfl, Nat.le_of_ble_eq_true rfl⟩ rfl rfl (Nat.le_of_ble_eq_true rfl) dX0_blockOf_5 rfl kM (kX ?_)
    rcases ite_cs e with ⟨c7, e⟩ | ⟨_, e⟩
    · refine v_catchH (ci := 22) (nm := "java/lang/IndexOutOfBoundsException") (pre := []) (x := (0, 10, 13, 21)) (suf := [(0, 10, 17, 13)]) ho_X0_blockOf c7 rfl rfl (by decide) (by decide) hpN q1557 q1156 ?_
      refine v_astore (pc' := 15) (lv' := [(4, .ref zq6), (0, .ref x0), (1, .int x1), (2, .int x2), (3, .ref x3)]) hc_X0_blockOf dX0_blockOf_13 rfl (Nat.le_of_ble_eq_true rfl) rfl ?_
      refine v_iconst (pc' := 16) (v := 1) hc_X0_blockOf dX0_blockOf_15 rfl rfl ?_
      obtain ⟨rfl, rfl⟩ := ret_of e
      exact v_iret hc_X0_blockOf rfl dX0_blockOf_16 rfl rfl
    rcases ite_cs e with ⟨c8, e⟩ | ⟨_, e⟩
    · refine v_catchH (ci := 21) (nm := "java/lang/IllegalArgumentException") (pre := [(0, 10, 13, 21)]) (x := (0, 10, 17, 13)) (suf := []) ho_X0_blockOf c8 rfl rfl (by decide) (by decide) (hpC (Or.inr ⟨by decide, "java/lang/IndexOutOfBoundsException", q1557, by decide +kernel⟩) hpN) q923 q274 ?_
      refine v_astore (pc' := 19) (lv' := [(4, .ref zq6), (0, .ref x0), (1, .int x1), (2, .int x2), (3, .ref x3)]) hc_X0_blockOf dX0_blockOf_17 rfl (Nat.le_of_ble_eq_true rfl) rfl ?_
      refine v_iconst (pc' := 20) (v := 2) hc_X0_blockOf dX0_blockOf_19 rfl rfl ?_
      obtain ⟨rfl, rfl⟩ := ret_of e
      exact v_iret hc_X0_blockOf rfl dX0_blockOf_20 rfl rfl
    exact nomatch e
theorem w_X0_blockOf (D : va_G) (l : Launch) (hl : l.stackTraces = false) (x0 : Nat) (x1 : Int32) (x2 : Int32) (x3 : Nat) (h : AH) {r : Int32} {hF : AH} (e : f_X0_blockOf x0 x1 x2 x3 h = some (r, hF)) : MetV D l yX0_blockOf (Cond.codeWith yX0_blockOf cX0_blockOf 5 (Option.some .int) [(0, 10, 13, 21), (0, 10, 17, 13)]) 9 160 [.ref x0, .int x1, .int x2, .ref x3] h hF (oI r) :=
  met_ofHF (by decide +kernel) hl (Nat.le_of_ble_eq_true rfl) rfl (v_X0_blockOf D l hl [.ref x0, .int x1, .int x2, .ref x3] h x0 x1 x2 x3 h e)
/-! BlockPapersLaw.carve(LBlockPapers;I[J)I  -/
abbrev G_X0_carve (D : va_G) (l : Launch) (as : List Value) (h0 hF : AH) (o : Out) : CT := (D, l, (yX0_carve.cls, yX0_carve, cX0_carve, 4, (Option.some .int), 15, 365, [(0, 9, 12, 21)]), as, h0, hF, o)
theorem hc_X0_carve {D : va_G} {l : Launch} {as : List Value} {h0 hF : AH} {o : Out} : gC (G_X0_carve D l as h0 hF o) = cX0_carve := rfl
theorem ho_X0_carve {D : va_G} {l : Launch} {as : List Value} {h0 hF : AH} {o : Out} : gO (G_X0_carve D l as h0 hF o) = "BlockPapersLaw" := rfl
def f_X0_carve (x0 : Nat) (x1 : Int32) (x2 : Nat) (h : AH) : Option (Int32 × AH) :=
  gd (isC h 0 x0) <|
  bdX (f_X1_carve x0 x1 h) (fun zq6 h3 =>
    if isX h3 22 zq6 = true then (
      some ((1 : Int32), h3)
    ) else (
    none)
  ) fun r2 h3 =>
  bd (stL h3 x2 (0 : Int32) r2.toInt64) fun h5 =>
  some ((0 : Int32), h5)
theorem v_X0_carve (D : va_G) (l : Launch) (hl : l.stackTraces = false) (as : List Value) (h0 : AH) {r : Int32} {hF : AH} (x0 : Nat) (x1 : Int32) (x2 : Nat) (h : AH) (e : f_X0_carve x0 x1 x2 h = some (r, hF)) : V (G_X0_carve D l as h0 hF (oI r)) h 0 [(0, .ref x0), (1, .int x1), (2, .ref x2)] [] := by
  unfold f_X0_carve at e
  refine v_aload_n (pc' := 1) hc_X0_carve dX0_carve_0 rfl rfl 2 rfl ?_
  refine v_iconst (pc' := 2) (v := 0) hc_X0_carve dX0_carve_1 rfl rfl ?_
  refine v_aload_n (pc' := 3) hc_X0_carve dX0_carve_2 rfl rfl 0 rfl ?_
  refine v_iload_n (pc' := 4) hc_X0_carve dX0_carve_3 rfl rfl 1 rfl ?_
  obtain ⟨c1, e⟩ := gd_of e
  rcases bdX_of e with ⟨r2, h3, e4, e⟩ | ⟨zq6, h3, e4, e⟩
  · refine k_V (pc' := 7) (ci := 0) (n := 1) hc_X0_carve ho_X0_carve rfl c1 (w_X1_carve D l hl x0 x1 h e4) (wA_l q1572) q1573 (wA_l q1574) q75 q1575 hy_134 ⟨Nat.le_of_ble_eq_true rfl, Nat.le_of_ble_eq_true rfl⟩ rfl rfl (Nat.le_of_ble_eq_true rfl) dX0_carve_4 rfl (kS ?_) kN
    refine v_i2l (pc' := 8) hc_X0_carve dX0_carve_7 rfl ?_
    refine v_last (pc' := 9) hc_X0_carve dX0_carve_8 rfl e (fun h5 _ e => ?_)
    refine v_goto (pt := 15) hc_X0_carve dX0_carve_9 rfl ?_
    refine v_iconst (pc' := 16) (v := 0) hc_X0_carve dX0_carve_15 rfl rfl ?_
    obtain ⟨rfl, rfl⟩ := ret_of e
    exact v_iret hc_X0_carve rfl dX0_carve_16 rfl rfl
  · refine k_V (pc' := 7) (ci := 0) (n := 1) hc_X0_carve ho_X0_carve rfl c1 (w_X1_carve D l hl x0 x1 h e4) (wA_l q1572) q1573 (wA_l q1574) q75 q1575 hy_134 ⟨Nat.le_of_ble_eq_true rfl, Nat.le_of_ble_eq_true rfl⟩ rfl rfl (Nat.le_of_ble_eq_true rfl) dX0_carve_4 rfl kM (kX ?_)
    rcases ite_cs e with ⟨c7, e⟩ | ⟨_, e⟩
    · refine v_catchH (ci := 22) (nm := "java/lang/IndexOutOfBoundsException") (pre := []) (x := (0, 9, 12, 21)) (suf := []) ho_X0_carve c7 rfl rfl (by decide) (by decide) hpN q1557 q1156 ?_
      refine v_astore_n (pc' := 13) (lv' := [(3, .ref zq6), (0, .ref x0), (1, .int x1), (2, .ref x2)]) hc_X0_carve dX0_carve_12 rfl rfl (Nat.le_of_ble_eq_true rfl) rfl ?_
      refine v_iconst (pc' := 14) (v := 1) hc_X0_carve dX0_carve_13 rfl rfl ?_
      obtain ⟨rfl, rfl⟩ := ret_of e
      exact v_iret hc_X0_carve rfl dX0_carve_14 rfl rfl
    exact nomatch e
theorem w_X0_carve (D : va_G) (l : Launch) (hl : l.stackTraces = false) (x0 : Nat) (x1 : Int32) (x2 : Nat) (h : AH) {r : Int32} {hF : AH} (e : f_X0_carve x0 x1 x2 h = some (r, hF)) : MetV D l yX0_carve (Cond.codeWith yX0_carve cX0_carve 4 (Option.some .int) [(0, 9, 12, 21)]) 15 365 [.ref x0, .int x1, .ref x2] h hF (oI r) :=
  met_ofHF (by decide +kernel) hl (Nat.le_of_ble_eq_true rfl) rfl (v_X0_carve D l hl [.ref x0, .int x1, .ref x2] h x0 x1 x2 h e)
/-! BlockPapersLaw.ink(LBlockPapers;III[J)I  -/
abbrev G_X0_ink (D : va_G) (l : Launch) (as : List Value) (h0 hF : AH) (o : Out) : CT := (D, l, (yX0_ink.cls, yX0_ink, cX0_ink, 6, (Option.some .int), 15, 367, [(0, 12, 15, 13), (0, 12, 19, 15)]), as, h0, hF, o)
theorem hc_X0_ink {D : va_G} {l : Launch} {as : List Value} {h0 hF : AH} {o : Out} : gC (G_X0_ink D l as h0 hF o) = cX0_ink := rfl
theorem ho_X0_ink {D : va_G} {l : Launch} {as : List Value} {h0 hF : AH} {o : Out} : gO (G_X0_ink D l as h0 hF o) = "BlockPapersLaw" := rfl
def f_X0_ink (x0 : Nat) (x1 : Int32) (x2 : Int32) (x3 : Int32) (x4 : Nat) (h : AH) : Option (Int32 × AH) :=
  gd (isC h 0 x0) <|
  bdX (f_X1_ink x0 x1 x2 x3 h) (fun zq6 h3 =>
    if isX h3 21 zq6 = true then (
      some ((1 : Int32), h3)
    ) else (
    if isX h3 26 zq6 = true then (
      some ((2 : Int32), h3)
    ) else (
    none))
  ) fun r2 h3 =>
  bd (stL h3 x4 (0 : Int32) r2.toInt64) fun h5 =>
  some ((0 : Int32), h5)
theorem v_X0_ink (D : va_G) (l : Launch) (hl : l.stackTraces = false) (as : List Value) (h0 : AH) {r : Int32} {hF : AH} (x0 : Nat) (x1 : Int32) (x2 : Int32) (x3 : Int32) (x4 : Nat) (h : AH) (e : f_X0_ink x0 x1 x2 x3 x4 h = some (r, hF)) : V (G_X0_ink D l as h0 hF (oI r)) h 0 [(0, .ref x0), (1, .int x1), (2, .int x2), (3, .int x3), (4, .ref x4)] [] := by
  unfold f_X0_ink at e
  refine v_aload (pc' := 2) hc_X0_ink dX0_ink_0 rfl 4 rfl ?_
  refine v_iconst (pc' := 3) (v := 0) hc_X0_ink dX0_ink_2 rfl rfl ?_
  refine v_aload_n (pc' := 4) hc_X0_ink dX0_ink_3 rfl rfl 0 rfl ?_
  refine v_iload_n (pc' := 5) hc_X0_ink dX0_ink_4 rfl rfl 1 rfl ?_
  refine v_iload_n (pc' := 6) hc_X0_ink dX0_ink_5 rfl rfl 2 rfl ?_
  refine v_iload_n (pc' := 7) hc_X0_ink dX0_ink_6 rfl rfl 3 rfl ?_
  obtain ⟨c1, e⟩ := gd_of e
  rcases bdX_of e with ⟨r2, h3, e4, e⟩ | ⟨zq6, h3, e4, e⟩
  · refine k_V (pc' := 10) (ci := 0) (n := 3) hc_X0_ink ho_X0_ink rfl c1 (w_X1_ink D l hl x0 x1 x2 x3 h e4) (wA_l q1583) q1584 (wA_l q1585) q75 q1586 hy_138 ⟨Nat.le_of_ble_eq_true rfl, Nat.le_of_ble_eq_true rfl⟩ rfl rfl (Nat.le_of_ble_eq_true rfl) dX0_ink_7 rfl (kS ?_) kN
    refine v_i2l (pc' := 11) hc_X0_ink dX0_ink_10 rfl ?_
    refine v_last (pc' := 12) hc_X0_ink dX0_ink_11 rfl e (fun h5 _ e => ?_)
    refine v_goto (pt := 23) hc_X0_ink dX0_ink_12 rfl ?_
    refine v_iconst (pc' := 24) (v := 0) hc_X0_ink dX0_ink_23 rfl rfl ?_
    obtain ⟨rfl, rfl⟩ := ret_of e
    exact v_iret hc_X0_ink rfl dX0_ink_24 rfl rfl
  · refine k_V (pc' := 10) (ci := 0) (n := 3) hc_X0_ink ho_X0_ink rfl c1 (w_X1_ink D l hl x0 x1 x2 x3 h e4) (wA_l q1583) q1584 (wA_l q1585) q75 q1586 hy_138 ⟨Nat.le_of_ble_eq_true rfl, Nat.le_of_ble_eq_true rfl⟩ rfl rfl (Nat.le_of_ble_eq_true rfl) dX0_ink_7 rfl kM (kX ?_)
    rcases ite_cs e with ⟨c7, e⟩ | ⟨_, e⟩
    · refine v_catchH (ci := 21) (nm := "java/lang/IllegalArgumentException") (pre := []) (x := (0, 12, 15, 13)) (suf := [(0, 12, 19, 15)]) ho_X0_ink c7 rfl rfl (by decide) (by decide) hpN q923 q274 ?_
      refine v_astore (pc' := 17) (lv' := [(5, .ref zq6), (0, .ref x0), (1, .int x1), (2, .int x2), (3, .int x3), (4, .ref x4)]) hc_X0_ink dX0_ink_15 rfl (Nat.le_of_ble_eq_true rfl) rfl ?_
      refine v_iconst (pc' := 18) (v := 1) hc_X0_ink dX0_ink_17 rfl rfl ?_
      obtain ⟨rfl, rfl⟩ := ret_of e
      exact v_iret hc_X0_ink rfl dX0_ink_18 rfl rfl
    rcases ite_cs e with ⟨c8, e⟩ | ⟨_, e⟩
    · refine v_catchH (ci := 26) (nm := "java/lang/UnsupportedOperationException") (pre := [(0, 12, 15, 13)]) (x := (0, 12, 19, 15)) (suf := []) ho_X0_ink c8 rfl rfl (by decide) (by decide) (hpC (Or.inr ⟨by decide, "java/lang/IllegalArgumentException", q923, by decide +kernel⟩) hpN) q924 q1541 ?_
      refine v_astore (pc' := 21) (lv' := [(5, .ref zq6), (0, .ref x0), (1, .int x1), (2, .int x2), (3, .int x3), (4, .ref x4)]) hc_X0_ink dX0_ink_19 rfl (Nat.le_of_ble_eq_true rfl) rfl ?_
      refine v_iconst (pc' := 22) (v := 2) hc_X0_ink dX0_ink_21 rfl rfl ?_
      obtain ⟨rfl, rfl⟩ := ret_of e
      exact v_iret hc_X0_ink rfl dX0_ink_22 rfl rfl
    exact nomatch e
theorem w_X0_ink (D : va_G) (l : Launch) (hl : l.stackTraces = false) (x0 : Nat) (x1 : Int32) (x2 : Int32) (x3 : Int32) (x4 : Nat) (h : AH) {r : Int32} {hF : AH} (e : f_X0_ink x0 x1 x2 x3 x4 h = some (r, hF)) : MetV D l yX0_ink (Cond.codeWith yX0_ink cX0_ink 6 (Option.some .int) [(0, 12, 15, 13), (0, 12, 19, 15)]) 15 367 [.ref x0, .int x1, .int x2, .int x3, .ref x4] h hF (oI r) :=
  met_ofHF (by decide +kernel) hl (Nat.le_of_ble_eq_true rfl) rfl (v_X0_ink D l hl [.ref x0, .int x1, .int x2, .int x3, .ref x4] h x0 x1 x2 x3 x4 h e)
/-! BlockPapersLaw.inkOf(LBlockPapers;II[J)I  -/
abbrev G_X0_inkOf (D : va_G) (l : Launch) (as : List Value) (h0 hF : AH) (o : Out) : CT := (D, l, (yX0_inkOf.cls, yX0_inkOf, cX0_inkOf, 5, (Option.some .int), 9, 160, [(0, 10, 13, 21), (0, 10, 17, 13)]), as, h0, hF, o)
theorem hc_X0_inkOf {D : va_G} {l : Launch} {as : List Value} {h0 hF : AH} {o : Out} : gC (G_X0_inkOf D l as h0 hF o) = cX0_inkOf := rfl
theorem ho_X0_inkOf {D : va_G} {l : Launch} {as : List Value} {h0 hF : AH} {o : Out} : gO (G_X0_inkOf D l as h0 hF o) = "BlockPapersLaw" := rfl
def f_X0_inkOf (x0 : Nat) (x1 : Int32) (x2 : Int32) (x3 : Nat) (h : AH) : Option (Int32 × AH) :=
  gd (isC h 0 x0) <|
  bdX (f_X1_inkOf x0 x1 x2 h) (fun zq6 h3 =>
    if isX h3 22 zq6 = true then (
      some ((1 : Int32), h3)
    ) else (
    if isX h3 21 zq6 = true then (
      some ((2 : Int32), h3)
    ) else (
    none))
  ) fun r2 h3 =>
  bd (stL h3 x3 (0 : Int32) r2.toInt64) fun h5 =>
  some ((0 : Int32), h5)
theorem v_X0_inkOf (D : va_G) (l : Launch) (hl : l.stackTraces = false) (as : List Value) (h0 : AH) {r : Int32} {hF : AH} (x0 : Nat) (x1 : Int32) (x2 : Int32) (x3 : Nat) (h : AH) (e : f_X0_inkOf x0 x1 x2 x3 h = some (r, hF)) : V (G_X0_inkOf D l as h0 hF (oI r)) h 0 [(0, .ref x0), (1, .int x1), (2, .int x2), (3, .ref x3)] [] := by
  unfold f_X0_inkOf at e
  refine v_aload_n (pc' := 1) hc_X0_inkOf dX0_inkOf_0 rfl rfl 3 rfl ?_
  refine v_iconst (pc' := 2) (v := 0) hc_X0_inkOf dX0_inkOf_1 rfl rfl ?_
  refine v_aload_n (pc' := 3) hc_X0_inkOf dX0_inkOf_2 rfl rfl 0 rfl ?_
  refine v_iload_n (pc' := 4) hc_X0_inkOf dX0_inkOf_3 rfl rfl 1 rfl ?_
  refine v_iload_n (pc' := 5) hc_X0_inkOf dX0_inkOf_4 rfl rfl 2 rfl ?_
  obtain ⟨c1, e⟩ := gd_of e
  rcases bdX_of e with ⟨r2, h3, e4, e⟩ | ⟨zq6, h3, e4, e⟩
  · refine k_V (pc' := 8) (ci := 0) (n := 2) hc_X0_inkOf ho_X0_inkOf rfl c1 (w_X1_inkOf D l hl x0 x1 x2 h e4) (wA_l q1592) q1593 (wA_l q1594) q75 q1595 hy_142 ⟨Nat.le_of_ble_eq_true rfl, Nat.le_of_ble_eq_true rfl⟩ rfl rfl (Nat.le_of_ble_eq_true rfl) dX0_inkOf_5 rfl (kS ?_) kN
    refine v_i2l (pc' := 9) hc_X0_inkOf dX0_inkOf_8 rfl ?_
    refine v_last (pc' := 10) hc_X0_inkOf dX0_inkOf_9 rfl e (fun h5 _ e => ?_)
    refine v_goto (pt := 21) hc_X0_inkOf dX0_inkOf_10 rfl ?_
    refine v_iconst (pc' := 22) (v := 0) hc_X0_inkOf dX0_inkOf_21 rfl rfl ?_
    obtain ⟨rfl, rfl⟩ := ret_of e
    exact v_iret hc_X0_inkOf rfl dX0_inkOf_22 rfl rfl
  · refine k_V (pc' := 8) (ci := 0) (n := 2) hc_X0_inkOf ho_X0_inkOf rfl c1 (w_X1_inkOf D l hl x0 x1 x2 h e4) (wA_l q1592) q1593 (wA_l q1594) q75 q1595 hy_142 ⟨Nat.le_of_ble_eq_true rfl, Nat.le_of_ble_eq_true rfl⟩ rfl rfl (Nat.le_of_ble_eq_true rfl) dX0_inkOf_5 rfl kM (kX ?_)
    rcases ite_cs e with ⟨c7, e⟩ | ⟨_, e⟩
    · refine v_catchH (ci := 22) (nm := "java/lang/IndexOutOfBoundsException") (pre := []) (x := (0, 10, 13, 21)) (suf := [(0, 10, 17, 13)]) ho_X0_inkOf c7 rfl rfl (by decide) (by decide) hpN q1557 q1156 ?_
      refine v_astore (pc' := 15) (lv' := [(4, .ref zq6), (0, .ref x0), (1, .int x1), (2, .int x2), (3, .ref x3)]) hc_X0_inkOf dX0_inkOf_13 rfl (Nat.le_of_ble_eq_true rfl) rfl ?_
      refine v_iconst (pc' := 16) (v := 1) hc_X0_inkOf dX0_inkOf_15 rfl rfl ?_
      obtain ⟨rfl, rfl⟩ := ret_of e
      exact v_iret hc_X0_inkOf rfl dX0_inkOf_16 rfl rfl
    rcases ite_cs e with ⟨c8, e⟩ | ⟨_, e⟩
    · refine v_catchH (ci := 21) (nm := "java/lang/IllegalArgumentException") (pre := [(0, 10, 13, 21)]) (x := (0, 10, 17, 13)) (suf := []) ho_X0_inkOf c8 rfl rfl (by decide) (by decide) (hpC (Or.inr ⟨by decide, "java/lang/IndexOutOfBoundsException", q1557, by decide +kernel⟩) hpN) q923 q274 ?_
      refine v_astore (pc' := 19) (lv' := [(4, .ref zq6), (0, .ref x0), (1, .int x1), (2, .int x2), (3, .ref x3)]) hc_X0_inkOf dX0_inkOf_17 rfl (Nat.le_of_ble_eq_true rfl) rfl ?_
      refine v_iconst (pc' := 20) (v := 2) hc_X0_inkOf dX0_inkOf_19 rfl rfl ?_
      obtain ⟨rfl, rfl⟩ := ret_of e
      exact v_iret hc_X0_inkOf rfl dX0_inkOf_20 rfl rfl
    exact nomatch e
theorem w_X0_inkOf (D : va_G) (l : Launch) (hl : l.stackTraces = false) (x0 : Nat) (x1 : Int32) (x2 : Int32) (x3 : Nat) (h : AH) {r : Int32} {hF : AH} (e : f_X0_inkOf x0 x1 x2 x3 h = some (r, hF)) : MetV D l yX0_inkOf (Cond.codeWith yX0_inkOf cX0_inkOf 5 (Option.some .int) [(0, 10, 13, 21), (0, 10, 17, 13)]) 9 160 [.ref x0, .int x1, .int x2, .ref x3] h hF (oI r) :=
  met_ofHF (by decide +kernel) hl (Nat.le_of_ble_eq_true rfl) rfl (v_X0_inkOf D l hl [.ref x0, .int x1, .int x2, .ref x3] h x0 x1 x2 x3 h e)
/-! BlockPapersLaw.mix(LBlockPapers;III[J)I  -/
abbrev G_X0_mix (D : va_G) (l : Launch) (as : List Value) (h0 hF : AH) (o : Out) : CT := (D, l, (yX0_mix.cls, yX0_mix, cX0_mix, 6, (Option.some .int), 15, 367, [(0, 12, 15, 21), (0, 12, 19, 13), (0, 12, 23, 15)]), as, h0, hF, o)
theorem hc_X0_mix {D : va_G} {l : Launch} {as : List Value} {h0 hF : AH} {o : Out} : gC (G_X0_mix D l as h0 hF o) = cX0_mix := rfl
theorem ho_X0_mix {D : va_G} {l : Launch} {as : List Value} {h0 hF : AH} {o : Out} : gO (G_X0_mix D l as h0 hF o) = "BlockPapersLaw" := rfl
def f_X0_mix (x0 : Nat) (x1 : Int32) (x2 : Int32) (x3 : Int32) (x4 : Nat) (h : AH) : Option (Int32 × AH) :=
  gd (isC h 0 x0) <|
  bdX (f_X1_mix x0 x1 x2 x3 h) (fun zq6 h3 =>
    if isX h3 22 zq6 = true then (
      some ((1 : Int32), h3)
    ) else (
    if isX h3 21 zq6 = true then (
      some ((2 : Int32), h3)
    ) else (
    if isX h3 26 zq6 = true then (
      some ((3 : Int32), h3)
    ) else (
    none)))
  ) fun r2 h3 =>
  bd (stL h3 x4 (0 : Int32) r2.toInt64) fun h5 =>
  some ((0 : Int32), h5)
theorem v_X0_mix (D : va_G) (l : Launch) (hl : l.stackTraces = false) (as : List Value) (h0 : AH) {r : Int32} {hF : AH} (x0 : Nat) (x1 : Int32) (x2 : Int32) (x3 : Int32) (x4 : Nat) (h : AH) (e : f_X0_mix x0 x1 x2 x3 x4 h = some (r, hF)) : V (G_X0_mix D l as h0 hF (oI r)) h 0 [(0, .ref x0), (1, .int x1), (2, .int x2), (3, .int x3), (4, .ref x4)] [] := by
  unfold f_X0_mix at e
  refine v_aload (pc' := 2) hc_X0_mix dX0_mix_0 rfl 4 rfl ?_
  refine v_iconst (pc' := 3) (v := 0) hc_X0_mix dX0_mix_2 rfl rfl ?_
  refine v_aload_n (pc' := 4) hc_X0_mix dX0_mix_3 rfl rfl 0 rfl ?_
  refine v_iload_n (pc' := 5) hc_X0_mix dX0_mix_4 rfl rfl 1 rfl ?_
  refine v_iload_n (pc' := 6) hc_X0_mix dX0_mix_5 rfl rfl 2 rfl ?_
  refine v_iload_n (pc' := 7) hc_X0_mix dX0_mix_6 rfl rfl 3 rfl ?_
  obtain ⟨c1, e⟩ := gd_of e
  rcases bdX_of e with ⟨r2, h3, e4, e⟩ | ⟨zq6, h3, e4, e⟩
  · refine k_V (pc' := 10) (ci := 0) (n := 3) hc_X0_mix ho_X0_mix rfl c1 (w_X1_mix D l hl x0 x1 x2 x3 h e4) (wA_l q1600) q1601 (wA_l q1602) q75 q1603 hy_147 ⟨Nat.le_of_ble_eq_true rfl, Nat.le_of_ble_eq_true rfl⟩ rfl rfl (Nat.le_of_ble_eq_true rfl) dX0_mix_7 rfl (kS ?_) kN
    refine v_i2l (pc' := 11) hc_X0_mix dX0_mix_10 rfl ?_
    refine v_last (pc' := 12) hc_X0_mix dX0_mix_11 rfl e (fun h5 _ e => ?_)
    refine v_goto (pt := 27) hc_X0_mix dX0_mix_12 rfl ?_
    refine v_iconst (pc' := 28) (v := 0) hc_X0_mix dX0_mix_27 rfl rfl ?_
    obtain ⟨rfl, rfl⟩ := ret_of e
    exact v_iret hc_X0_mix rfl dX0_mix_28 rfl rfl
  · refine k_V (pc' := 10) (ci := 0) (n := 3) hc_X0_mix ho_X0_mix rfl c1 (w_X1_mix D l hl x0 x1 x2 x3 h e4) (wA_l q1600) q1601 (wA_l q1602) q75 q1603 hy_147 ⟨Nat.le_of_ble_eq_true rfl, Nat.le_of_ble_eq_true rfl⟩ rfl rfl (Nat.le_of_ble_eq_true rfl) dX0_mix_7 rfl kM (kX ?_)
    rcases ite_cs e with ⟨c7, e⟩ | ⟨_, e⟩
    · refine v_catchH (ci := 22) (nm := "java/lang/IndexOutOfBoundsException") (pre := []) (x := (0, 12, 15, 21)) (suf := [(0, 12, 19, 13), (0, 12, 23, 15)]) ho_X0_mix c7 rfl rfl (by decide) (by decide) hpN q1557 q1156 ?_
      refine v_astore (pc' := 17) (lv' := [(5, .ref zq6), (0, .ref x0), (1, .int x1), (2, .int x2), (3, .int x3), (4, .ref x4)]) hc_X0_mix dX0_mix_15 rfl (Nat.le_of_ble_eq_true rfl) rfl ?_
      refine v_iconst (pc' := 18) (v := 1) hc_X0_mix dX0_mix_17 rfl rfl ?_
      obtain ⟨rfl, rfl⟩ := ret_of e
      exact v_iret hc_X0_mix rfl dX0_mix_18 rfl rfl
    rcases ite_cs e with ⟨c8, e⟩ | ⟨_, e⟩
    · refine v_catchH (ci := 21) (nm := "java/lang/IllegalArgumentException") (pre := [(0, 12, 15, 21)]) (x := (0, 12, 19, 13)) (suf := [(0, 12, 23, 15)]) ho_X0_mix c8 rfl rfl (by decide) (by decide) (hpC (Or.inr ⟨by decide, "java/lang/IndexOutOfBoundsException", q1557, by decide +kernel⟩) hpN) q923 q274 ?_
      refine v_astore (pc' := 21) (lv' := [(5, .ref zq6), (0, .ref x0), (1, .int x1), (2, .int x2), (3, .int x3), (4, .ref x4)]) hc_X0_mix dX0_mix_19 rfl (Nat.le_of_ble_eq_true rfl) rfl ?_
      refine v_iconst (pc' := 22) (v := 2) hc_X0_mix dX0_mix_21 rfl rfl ?_
      obtain ⟨rfl, rfl⟩ := ret_of e
      exact v_iret hc_X0_mix rfl dX0_mix_22 rfl rfl
    rcases ite_cs e with ⟨c9, e⟩ | ⟨_, e⟩
    · refine v_catchH (ci := 26) (nm := "java/lang/UnsupportedOperationException") (pre := [(0, 12, 15, 21), (0, 12, 19, 13)]) (x := (0, 12, 23, 15)) (suf := []) ho_X0_mix c9 rfl rfl (by decide) (by decide) (hpC (Or.inr ⟨by decide, "java/lang/IndexOutOfBoundsException", q1557, by decide +kernel⟩) (hpC (Or.inr ⟨by decide, "java/lang/IllegalArgumentException", q923, by decide +kernel⟩) hpN)) q924 q1541 ?_
      refine v_astore (pc' := 25) (lv' := [(5, .ref zq6), (0, .ref x0), (1, .int x1), (2, .int x2), (3, .int x3), (4, .ref x4)]) hc_X0_mix dX0_mix_23 rfl (Nat.le_of_ble_eq_true rfl) rfl ?_
      refine v_iconst (pc' := 26) (v := 3) hc_X0_mix dX0_mix_25 rfl rfl ?_
      obtain ⟨rfl, rfl⟩ := ret_of e
      exact v_iret hc_X0_mix rfl dX0_mix_26 rfl rfl
    exact nomatch e
theorem w_X0_mix (D : va_G) (l : Launch) (hl : l.stackTraces = false) (x0 : Nat) (x1 : Int32) (x2 : Int32) (x3 : Int32) (x4 : Nat) (h : AH) {r : Int32} {hF : AH} (e : f_X0_mix x0 x1 x2 x3 x4 h = some (r, hF)) : MetV D l yX0_mix (Cond.codeWith yX0_mix cX0_mix 6 (Option.some .int) [(0, 12, 15, 21), (0, 12, 19, 13), (0, 12, 23, 15)]) 15 367 [.ref x0, .int x1, .int x2, .int x3, .ref x4] h hF (oI r) :=
  met_ofHF (by decide +kernel) hl (Nat.le_of_ble_eq_true rfl) rfl (v_X0_mix D l hl [.ref x0, .int x1, .int x2, .int x3, .ref x4] h x0 x1 x2 x3 x4 h e)
/-! BlockPapersLaw.print(LBlockPapers;III[J)I  -/
abbrev G_X0_print (D : va_G) (l : Launch) (as : List Value) (h0 hF : AH) (o : Out) : CT := (D, l, (yX0_print.cls, yX0_print, cX0_print, 6, (Option.some .int), 15, 367, [(0, 12, 15, 21), (0, 12, 19, 13), (0, 12, 23, 15)]), as, h0, hF, o)
theorem hc_X0_print {D : va_G} {l : Launch} {as : List Value} {h0 hF : AH} {o : Out} : gC (G_X0_print D l as h0 hF o) = cX0_print := rfl
theorem ho_X0_print {D : va_G} {l : Launch} {as : List Value} {h0 hF : AH} {o : Out} : gO (G_X0_print D l as h0 hF o) = "BlockPapersLaw" := rfl
def f_X0_print (x0 : Nat) (x1 : Int32) (x2 : Int32) (x3 : Int32) (x4 : Nat) (h : AH) : Option (Int32 × AH) :=
  gd (isC h 0 x0) <|
  bdX (f_X1_print x0 x1 x2 x3 h) (fun zq6 h3 =>
    if isX h3 22 zq6 = true then (
      some ((1 : Int32), h3)
    ) else (
    if isX h3 21 zq6 = true then (
      some ((2 : Int32), h3)
    ) else (
    if isX h3 26 zq6 = true then (
      some ((3 : Int32), h3)
    ) else (
    none)))
  ) fun r2 h3 =>
  bd (stL h3 x4 (0 : Int32) r2.toInt64) fun h5 =>
  some ((0 : Int32), h5)
theorem v_X0_print (D : va_G) (l : Launch) (hl : l.stackTraces = false) (as : List Value) (h0 : AH) {r : Int32} {hF : AH} (x0 : Nat) (x1 : Int32) (x2 : Int32) (x3 : Int32) (x4 : Nat) (h : AH) (e : f_X0_print x0 x1 x2 x3 x4 h = some (r, hF)) : V (G_X0_print D l as h0 hF (oI r)) h 0 [(0, .ref x0), (1, .int x1), (2, .int x2), (3, .int x3), (4, .ref x4)] [] := by
  unfold f_X0_print at e
  refine v_aload (pc' := 2) hc_X0_print dX0_print_0 rfl 4 rfl ?_
  refine v_iconst (pc' := 3) (v := 0) hc_X0_print dX0_print_2 rfl rfl ?_
  refine v_aload_n (pc' := 4) hc_X0_print dX0_print_3 rfl rfl 0 rfl ?_
  refine v_iload_n (pc' := 5) hc_X0_print dX0_print_4 rfl rfl 1 rfl ?_
  refine v_iload_n (pc' := 6) hc_X0_print dX0_print_5 rfl rfl 2 rfl ?_
  refine v_iload_n (pc' := 7) hc_X0_print dX0_print_6 rfl rfl 3 rfl ?_
  obtain ⟨c1, e⟩ := gd_of e
  rcases bdX_of e with ⟨r2, h3, e4, e⟩ | ⟨zq6, h3, e4, e⟩
  · refine k_V (pc' := 10) (ci := 0) (n := 3) hc_X0_print ho_X0_print rfl c1 (w_X1_print D l hl x0 x1 x2 x3 h e4) (wA_l q1608) q1609 (wA_l q1610) q75 q1611 hy_151 ⟨Nat.le_of_ble_eq_true rfl, Nat.le_of_ble_eq_true rfl⟩ rfl rfl (Nat.le_of_ble_eq_true rfl) dX0_print_7 rfl (kS ?_) kN
    refine v_i2l (pc' := 11) hc_X0_print dX0_print_10 rfl ?_
    refine v_last (pc' := 12) hc_X0_print dX0_print_11 rfl e (fun h5 _ e => ?_)
    refine v_goto (pt := 27) hc_X0_print dX0_print_12 rfl ?_
    refine v_iconst (pc' := 28) (v := 0) hc_X0_print dX0_print_27 rfl rfl ?_
    obtain ⟨rfl, rfl⟩ := ret_of e
    exact v_iret hc_X0_print rfl dX0_print_28 rfl rfl
  · refine k_V (pc' := 10) (ci := 0) (n := 3) hc_X0_print ho_X0_print rfl c1 (w_X1_print D l hl x0 x1 x2 x3 h e4) (wA_l q1608) q1609 (wA_l q1610) q75 q1611 hy_151 ⟨Nat.le_of_ble_eq_true rfl, Nat.le_of_ble_eq_true rfl⟩ rfl rfl (Nat.le_of_ble_eq_true rfl) dX0_print_7 rfl kM (kX ?_)
    rcases ite_cs e with ⟨c7, e⟩ | ⟨_, e⟩
    · refine v_catchH (ci := 22) (nm := "java/lang/IndexOutOfBoundsException") (pre := []) (x := (0, 12, 15, 21)) (suf := [(0, 12, 19, 13), (0, 12, 23, 15)]) ho_X0_print c7 rfl rfl (by decide) (by decide) hpN q1557 q1156 ?_
      refine v_astore (pc' := 17) (lv' := [(5, .ref zq6), (0, .ref x0), (1, .int x1), (2, .int x2), (3, .int x3), (4, .ref x4)]) hc_X0_print dX0_print_15 rfl (Nat.le_of_ble_eq_true rfl) rfl ?_
      refine v_iconst (pc' := 18) (v := 1) hc_X0_print dX0_print_17 rfl rfl ?_
      obtain ⟨rfl, rfl⟩ := ret_of e
      exact v_iret hc_X0_print rfl dX0_print_18 rfl rfl
    rcases ite_cs e with ⟨c8, e⟩ | ⟨_, e⟩
    · refine v_catchH (ci := 21) (nm := "java/lang/IllegalArgumentException") (pre := [(0, 12, 15, 21)]) (x := (0, 12, 19, 13)) (suf := [(0, 12, 23, 15)]) ho_X0_print c8 rfl rfl (by decide) (by decide) (hpC (Or.inr ⟨by decide, "java/lang/IndexOutOfBoundsException", q1557, by decide +kernel⟩) hpN) q923 q274 ?_
      refine v_astore (pc' := 21) (lv' := [(5, .ref zq6), (0, .ref x0), (1, .int x1), (2, .int x2), (3, .int x3), (4, .ref x4)]) hc_X0_print dX0_print_19 rfl (Nat.le_of_ble_eq_true rfl) rfl ?_
      refine v_iconst (pc' := 22) (v := 2) hc_X0_print dX0_print_21 rfl rfl ?_
      obtain ⟨rfl, rfl⟩ := ret_of e
      exact v_iret hc_X0_print rfl dX0_print_22 rfl rfl
    rcases ite_cs e with ⟨c9, e⟩ | ⟨_, e⟩
    · refine v_catchH (ci := 26) (nm := "java/lang/UnsupportedOperationException") (pre := [(0, 12, 15, 21), (0, 12, 19, 13)]) (x := (0, 12, 23, 15)) (suf := []) ho_X0_print c9 rfl rfl (by decide) (by decide) (hpC (Or.inr ⟨by decide, "java/lang/IndexOutOfBoundsException", q1557, by decide +kernel⟩) (hpC (Or.inr ⟨by decide, "java/lang/IllegalArgumentException", q923, by decide +kernel⟩) hpN)) q924 q1541 ?_
      refine v_astore (pc' := 25) (lv' := [(5, .ref zq6), (0, .ref x0), (1, .int x1), (2, .int x2), (3, .int x3), (4, .ref x4)]) hc_X0_print dX0_print_23 rfl (Nat.le_of_ble_eq_true rfl) rfl ?_
      refine v_iconst (pc' := 26) (v := 3) hc_X0_print dX0_print_25 rfl rfl ?_
      obtain ⟨rfl, rfl⟩ := ret_of e
      exact v_iret hc_X0_print rfl dX0_print_26 rfl rfl
    exact nomatch e
theorem w_X0_print (D : va_G) (l : Launch) (hl : l.stackTraces = false) (x0 : Nat) (x1 : Int32) (x2 : Int32) (x3 : Int32) (x4 : Nat) (h : AH) {r : Int32} {hF : AH} (e : f_X0_print x0 x1 x2 x3 x4 h = some (r, hF)) : MetV D l yX0_print (Cond.codeWith yX0_print cX0_print 6 (Option.some .int) [(0, 12, 15, 21), (0, 12, 19, 13), (0, 12, 23, 15)]) 15 367 [.ref x0, .int x1, .int x2, .int x3, .ref x4] h hF (oI r) :=
  met_ofHF (by decide +kernel) hl (Nat.le_of_ble_eq_true rfl) rfl (v_X0_print D l hl [.ref x0, .int x1, .int x2, .int x3, .ref x4] h x0 x1 x2 x3 x4 h e)
/-! BlockPapersLaw.rollOf(LBlockPapers;II[J)I  -/
abbrev G_X0_rollOf (D : va_G) (l : Launch) (as : List Value) (h0 hF : AH) (o : Out) : CT := (D, l, (yX0_rollOf.cls, yX0_rollOf, cX0_rollOf, 5, (Option.some .int), 11, 219, [(0, 10, 13, 21), (0, 10, 17, 13)]), as, h0, hF, o)
theorem hc_X0_rollOf {D : va_G} {l : Launch} {as : List Value} {h0 hF : AH} {o : Out} : gC (G_X0_rollOf D l as h0 hF o) = cX0_rollOf := rfl
theorem ho_X0_rollOf {D : va_G} {l : Launch} {as : List Value} {h0 hF : AH} {o : Out} : gO (G_X0_rollOf D l as h0 hF o) = "BlockPapersLaw" := rfl
def f_X0_rollOf (x0 : Nat) (x1 : Int32) (x2 : Int32) (x3 : Nat) (h : AH) : Option (Int32 × AH) :=
  gd (isC h 0 x0) <|
  bdX (f_X1_rollOf x0 x1 x2 h) (fun zq6 h3 =>
    if isX h3 22 zq6 = true then (
      some ((1 : Int32), h3)
    ) else (
    if isX h3 21 zq6 = true then (
      some ((2 : Int32), h3)
    ) else (
    none))
  ) fun r2 h3 =>
  bd (stL h3 x3 (0 : Int32) r2.toInt64) fun h5 =>
  some ((0 : Int32), h5)
theorem v_X0_rollOf (D : va_G) (l : Launch) (hl : l.stackTraces = false) (as : List Value) (h0 : AH) {r : Int32} {hF : AH} (x0 : Nat) (x1 : Int32) (x2 : Int32) (x3 : Nat) (h : AH) (e : f_X0_rollOf x0 x1 x2 x3 h = some (r, hF)) : V (G_X0_rollOf D l as h0 hF (oI r)) h 0 [(0, .ref x0), (1, .int x1), (2, .int x2), (3, .ref x3)] [] := by
  unfold f_X0_rollOf at e
  refine v_aload_n (pc' := 1) hc_X0_rollOf dX0_rollOf_0 rfl rfl 3 rfl ?_
  refine v_iconst (pc' := 2) (v := 0) hc_X0_rollOf dX0_rollOf_1 rfl rfl ?_
  refine v_aload_n (pc' := 3) hc_X0_rollOf dX0_rollOf_2 rfl rfl 0 rfl ?_
  refine v_iload_n (pc' := 4) hc_X0_rollOf dX0_rollOf_3 rfl rfl 1 rfl ?_
  refine v_iload_n (pc' := 5) hc_X0_rollOf dX0_rollOf_4 rfl rfl 2 rfl ?_
  obtain ⟨c1, e⟩ := gd_of e
  rcases bdX_of e with ⟨r2, h3, e4, e⟩ | ⟨zq6, h3, e4, e⟩
  · refine k_V (pc' := 8) (ci := 0) (n := 2) hc_X0_rollOf ho_X0_rollOf rfl c1 (w_X1_rollOf D l hl x0 x1 x2 h e4) (wA_l q1616) q1617 (wA_l q1618) q75 q1619 hy_162 ⟨Nat.le_of_ble_eq_true rfl, Nat.le_of_ble_eq_true rfl⟩ rfl rfl (Nat.le_of_ble_eq_true rfl) dX0_rollOf_5 rfl (kS ?_) kN
    refine v_i2l (pc' := 9) hc_X0_rollOf dX0_rollOf_8 rfl ?_
    refine v_last (pc' := 10) hc_X0_rollOf dX0_rollOf_9 rfl e (fun h5 _ e => ?_)
    refine v_goto (pt := 21) hc_X0_rollOf dX0_rollOf_10 rfl ?_
    refine v_iconst (pc' := 22) (v := 0) hc_X0_rollOf dX0_rollOf_21 rfl rfl ?_
    obtain ⟨rfl, rfl⟩ := ret_of e
    exact v_iret hc_X0_rollOf rfl dX0_rollOf_22 rfl rfl
  · refine k_V (pc' := 8) (ci := 0) (n := 2) hc_X0_rollOf ho_X0_rollOf rfl c1 (w_X1_rollOf D l hl x0 x1 x2 h e4) (wA_l q1616) q1617 (wA_l q1618) q75 q1619 hy_162 ⟨Nat.le_of_ble_eq_true rfl, Nat.le_of_ble_eq_true rfl⟩ rfl rfl (Nat.le_of_ble_eq_true rfl) dX0_rollOf_5 rfl kM (kX ?_)
    rcases ite_cs e with ⟨c7, e⟩ | ⟨_, e⟩
    · refine v_catchH (ci := 22) (nm := "java/lang/IndexOutOfBoundsException") (pre := []) (x := (0, 10, 13, 21)) (suf := [(0, 10, 17, 13)]) ho_X0_rollOf c7 rfl rfl (by decide) (by decide) hpN q1557 q1156 ?_
      refine v_astore (pc' := 15) (lv' := [(4, .ref zq6), (0, .ref x0), (1, .int x1), (2, .int x2), (3, .ref x3)]) hc_X0_rollOf dX0_rollOf_13 rfl (Nat.le_of_ble_eq_true rfl) rfl ?_
      refine v_iconst (pc' := 16) (v := 1) hc_X0_rollOf dX0_rollOf_15 rfl rfl ?_
      obtain ⟨rfl, rfl⟩ := ret_of e
      exact v_iret hc_X0_rollOf rfl dX0_rollOf_16 rfl rfl
    rcases ite_cs e with ⟨c8, e⟩ | ⟨_, e⟩
    · refine v_catchH (ci := 21) (nm := "java/lang/IllegalArgumentException") (pre := [(0, 10, 13, 21)]) (x := (0, 10, 17, 13)) (suf := []) ho_X0_rollOf c8 rfl rfl (by decide) (by decide) (hpC (Or.inr ⟨by decide, "java/lang/IndexOutOfBoundsException", q1557, by decide +kernel⟩) hpN) q923 q274 ?_
      refine v_astore (pc' := 19) (lv' := [(4, .ref zq6), (0, .ref x0), (1, .int x1), (2, .int x2), (3, .ref x3)]) hc_X0_rollOf dX0_rollOf_17 rfl (Nat.le_of_ble_eq_true rfl) rfl ?_
      refine v_iconst (pc' := 20) (v := 2) hc_X0_rollOf dX0_rollOf_19 rfl rfl ?_
      obtain ⟨rfl, rfl⟩ := ret_of e
      exact v_iret hc_X0_rollOf rfl dX0_rollOf_20 rfl rfl
    exact nomatch e
theorem w_X0_rollOf (D : va_G) (l : Launch) (hl : l.stackTraces = false) (x0 : Nat) (x1 : Int32) (x2 : Int32) (x3 : Nat) (h : AH) {r : Int32} {hF : AH} (e : f_X0_rollOf x0 x1 x2 x3 h = some (r, hF)) : MetV D l yX0_rollOf (Cond.codeWith yX0_rollOf cX0_rollOf 5 (Option.some .int) [(0, 10, 13, 21), (0, 10, 17, 13)]) 11 219 [.ref x0, .int x1, .int x2, .ref x3] h hF (oI r) :=
  met_ofHF (by decide +kernel) hl (Nat.le_of_ble_eq_true rfl) rfl (v_X0_rollOf D l hl [.ref x0, .int x1, .int x2, .ref x3] h x0 x1 x2 x3 h e)
/-! BlockPapersLaw.giveBack(LBlockPapers;I[J)I  -/
abbrev G_X0_giveBack (D : va_G) (l : Launch) (as : List Value) (h0 hF : AH) (o : Out) : CT := (D, l, (yX0_giveBack.cls, yX0_giveBack, cX0_giveBack, 4, (Option.some .int), 15, 365, [(0, 9, 12, 21), (0, 9, 15, 15)]), as, h0, hF, o)
theorem hc_X0_giveBack {D : va_G} {l : Launch} {as : List Value} {h0 hF : AH} {o : Out} : gC (G_X0_giveBack D l as h0 hF o) = cX0_giveBack := rfl
theorem ho_X0_giveBack {D : va_G} {l : Launch} {as : List Value} {h0 hF : AH} {o : Out} : gO (G_X0_giveBack D l as h0 hF o) = "BlockPapersLaw" := rfl
def f_X0_giveBack (x0 : Nat) (x1 : Int32) (x2 : Nat) (h : AH) : Option (Int32 × AH) :=
  gd (isC h 0 x0) <|
  bdX (f_X1_giveBack x0 x1 h) (fun zq6 h3 =>
    if isX h3 22 zq6 = true then (
      some ((1 : Int32), h3)
    ) else (
    if isX h3 26 zq6 = true then (
      some ((2 : Int32), h3)
    ) else (
    none))
  ) fun r2 h3 =>
  bd (stL h3 x2 (0 : Int32) r2.toInt64) fun h5 =>
  some ((0 : Int32), h5)
theorem v_X0_giveBack (D : va_G) (l : Launch) (hl : l.stackTraces = false) (as : List Value) (h0 : AH) {r : Int32} {hF : AH} (x0 : Nat) (x1 : Int32) (x2 : Nat) (h : AH) (e : f_X0_giveBack x0 x1 x2 h = some (r, hF)) : V (G_X0_giveBack D l as h0 hF (oI r)) h 0 [(0, .ref x0), (1, .int x1), (2, .ref x2)] [] := by
  unfold f_X0_giveBack at e
  refine v_aload_n (pc' := 1) hc_X0_giveBack dX0_giveBack_0 rfl rfl 2 rfl ?_
  refine v_iconst (pc' := 2) (v := 0) hc_X0_giveBack dX0_giveBack_1 rfl rfl ?_
  refine v_aload_n (pc' := 3) hc_X0_giveBack dX0_giveBack_2 rfl rfl 0 rfl ?_
  refine v_iload_n (pc' := 4) hc_X0_giveBack dX0_giveBack_3 rfl rfl 1 rfl ?_
  obtain ⟨c1, e⟩ := gd_of e
  rcases bdX_of e with ⟨r2, h3, e4, e⟩ | ⟨zq6, h3, e4, e⟩
  · refine k_V (pc' := 7) (ci := 0) (n := 1) hc_X0_giveBack ho_X0_giveBack rfl c1 (w_X1_giveBack D l hl x0 x1 h e4) (wA_l q1625) q1626 (wA_l q1627) q75 q1628 hy_172 ⟨Nat.le_of_ble_eq_true rfl, Nat.le_of_ble_eq_true rfl⟩ rfl rfl (Nat.le_of_ble_eq_true rfl) dX0_giveBack_4 rfl (kS ?_) kN
    refine v_i2l (pc' := 8) hc_X0_giveBack dX0_giveBack_7 rfl ?_
    refine v_last (pc' := 9) hc_X0_giveBack dX0_giveBack_8 rfl e (fun h5 _ e => ?_)
    refine v_goto (pt := 18) hc_X0_giveBack dX0_giveBack_9 rfl ?_
    refine v_iconst (pc' := 19) (v := 0) hc_X0_giveBack dX0_giveBack_18 rfl rfl ?_
    obtain ⟨rfl, rfl⟩ := ret_of e
    exact v_iret hc_X0_giveBack rfl dX0_giveBack_19 rfl rfl
  · refine k_V (pc' := 7) (ci := 0) (n := 1) hc_X0_giveBack ho_X0_giveBack rfl c1 (w_X1_giveBack D l hl x0 x1 h e4) (wA_l q1625) q1626 (wA_l q1627) q75 q1628 hy_172 ⟨Nat.le_of_ble_eq_true rfl, Nat.le_of_ble_eq_true rfl⟩ rfl rfl (Nat.le_of_ble_eq_true rfl) dX0_giveBack_4 rfl kM (kX ?_)
    rcases ite_cs e with ⟨c7, e⟩ | ⟨_, e⟩
    · refine v_catchH (ci := 22) (nm := "java/lang/IndexOutOfBoundsException") (pre := []) (x := (0, 9, 12, 21)) (suf := [(0, 9, 15, 15)]) ho_X0_giveBack c7 rfl rfl (by decide) (by decide) hpN q1557 q1156 ?_
      refine v_astore_n (pc' := 13) (lv' := [(3, .ref zq6), (0, .ref x0), (1, .int x1), (2, .ref x2)]) hc_X0_giveBack dX0_giveBack_12 rfl rfl (Nat.le_of_ble_eq_true rfl) rfl ?_
      refine v_iconst (pc' := 14) (v := 1) hc_X0_giveBack dX0_giveBack_13 rfl rfl ?_
      obtain ⟨rfl, rfl⟩ := ret_of e
      exact v_iret hc_X0_giveBack rfl dX0_giveBack_14 rfl rfl
    rcases ite_cs e with ⟨c8, e⟩ | ⟨_, e⟩
    · refine v_catchH (ci := 26) (nm := "java/lang/UnsupportedOperationException") (pre := [(0, 9, 12, 21)]) (x := (0, 9, 15, 15)) (suf := []) ho_X0_giveBack c8 rfl rfl (by decide) (by decide) (hpC (Or.inr ⟨by decide, "java/lang/IndexOutOfBoundsException", q1557, by decide +kernel⟩) hpN) q924 q1541 ?_
      refine v_astore_n (pc' := 16) (lv' := [(3, .ref zq6), (0, .ref x0), (1, .int x1), (2, .ref x2)]) hc_X0_giveBack dX0_giveBack_15 rfl rfl (Nat.le_of_ble_eq_true rfl) rfl ?_
      refine v_iconst (pc' := 17) (v := 2) hc_X0_giveBack dX0_giveBack_16 rfl rfl ?_
      obtain ⟨rfl, rfl⟩ := ret_of e
      exact v_iret hc_X0_giveBack rfl dX0_giveBack_17 rfl rfl
    exact nomatch e
theorem w_X0_giveBack (D : va_G) (l : Launch) (hl : l.stackTraces = false) (x0 : Nat) (x1 : Int32) (x2 : Nat) (h : AH) {r : Int32} {hF : AH} (e : f_X0_giveBack x0 x1 x2 h = some (r, hF)) : MetV D l yX0_giveBack (Cond.codeWith yX0_giveBack cX0_giveBack 4 (Option.some .int) [(0, 9, 12, 21), (0, 9, 15, 15)]) 15 365 [.ref x0, .int x1, .ref x2] h hF (oI r) :=
  met_ofHF (by decide +kernel) hl (Nat.le_of_ble_eq_true rfl) rfl (v_X0_giveBack D l hl [.ref x0, .int x1, .ref x2] h x0 x1 x2 h e)
/-! BlockPapersLaw.room(LBlockPapers;II[J)I  -/
abbrev G_X0_room (D : va_G) (l : Launch) (as : List Value) (h0 hF : AH) (o : Out) : CT := (D, l, (yX0_room.cls, yX0_room, cX0_room, 5, (Option.some .int), 15, 366, [(0, 10, 13, 13), (0, 10, 17, 15)]), as, h0, hF, o)
theorem hc_X0_room {D : va_G} {l : Launch} {as : List Value} {h0 hF : AH} {o : Out} : gC (G_X0_room D l as h0 hF o) = cX0_room := rfl
theorem ho_X0_room {D : va_G} {l : Launch} {as : List Value} {h0 hF : AH} {o : Out} : gO (G_X0_room D l as h0 hF o) = "BlockPapersLaw" := rfl
def f_X0_room (x0 : Nat) (x1 : Int32) (x2 : Int32) (x3 : Nat) (h : AH) : Option (Int32 × AH) :=
  gd (isC h 0 x0) <|
  bdX (f_X1_room x0 x1 x2 h) (fun zq6 h3 =>
    if isX h3 21 zq6 = true then (
      some ((1 : Int32), h3)
    ) else (
    if isX h3 26 zq6 = true then (
      some ((2 : Int32), h3)
    ) else (
    none))
  ) fun r2 h3 =>
  bd (stL h3 x3 (0 : Int32) r2.toInt64) fun h5 =>
  some ((0 : Int32), h5)
theorem v_X0_room (D : va_G) (l : Launch) (hl : l.stackTraces = false) (as : List Value) (h0 : AH) {r : Int32} {hF : AH} (x0 : Nat) (x1 : Int32) (x2 : Int32) (x3 : Nat) (h : AH) (e : f_X0_room x0 x1 x2 x3 h = some (r, hF)) : V (G_X0_room D l as h0 hF (oI r)) h 0 [(0, .ref x0), (1, .int x1), (2, .int x2), (3, .ref x3)] [] := by
  unfold f_X0_room at e
  refine v_aload_n (pc' := 1) hc_X0_room dX0_room_0 rfl rfl 3 rfl ?_
  refine v_iconst (pc' := 2) (v := 0) hc_X0_room dX0_room_1 rfl rfl ?_
  refine v_aload_n (pc' := 3) hc_X0_room dX0_room_2 rfl rfl 0 rfl ?_
  refine v_iload_n (pc' := 4) hc_X0_room dX0_room_3 rfl rfl 1 rfl ?_
  refine v_iload_n (pc' := 5) hc_X0_room dX0_room_4 rfl rfl 2 rfl ?_
  obtain ⟨c1, e⟩ := gd_of e
  rcases bdX_of e with ⟨r2, h3, e4, e⟩ | ⟨zq6, h3, e4, e⟩
  · refine k_V (pc' := 8) (ci := 0) (n := 2) hc_X0_room ho_X0_room rfl c1 (w_X1_room D l hl x0 x1 x2 h e4) (wA_l q1633) q1634 (wA_l q1635) q75 q1636 hy_178 ⟨Nat.le_of_ble_eq_true rfl, Nat.le_of_ble_eq_true rfl⟩ rfl rfl (Nat.le_of_ble_eq_true rfl) dX0_room_5 rfl (kS ?_) kN
    refine v_i2l (pc' := 9) hc_X0_room dX0_room_8 rfl ?_
    refine v_last (pc' := 10) hc_X0_room dX0_room_9 rfl e (fun h5 _ e => ?_)
    refine v_goto (pt := 21) hc_X0_room dX0_room_10 rfl ?_
    refine v_iconst (pc' := 22) (v := 0) hc_X0_room dX0_room_21 rfl rfl ?_
    obtain ⟨rfl, rfl⟩ := ret_of e
    exact v_iret hc_X0_room rfl dX0_room_22 rfl rfl
  · refine k_V (pc' := 8) (ci := 0) (n := 2) hc_X0_room ho_X0_room rfl c1 (w_X1_room D l hl x0 x1 x2 h e4) (wA_l q1633) q1634 (wA_l q1635) q75 q1636 hy_178 ⟨Nat.le_of_ble_eq_true rfl, Nat.le_of_ble_eq_true rfl⟩ rfl rfl (Nat.le_of_ble_eq_true rfl) dX0_room_5 rfl kM (kX ?_)
    rcases ite_cs e with ⟨c7, e⟩ | ⟨_, e⟩
    · refine v_catchH (ci := 21) (nm := "java/lang/IllegalArgumentException") (pre := []) (x := (0, 10, 13, 13)) (suf := [(0, 10, 17, 15)]) ho_X0_room c7 rfl rfl (by decide) (by decide) hpN q923 q274 ?_
      refine v_astore (pc' := 15) (lv' := [(4, .ref zq6), (0, .ref x0), (1, .int x1), (2, .int x2), (3, .ref x3)]) hc_X0_room dX0_room_13 rfl (Nat.le_of_ble_eq_true rfl) rfl ?_
      refine v_iconst (pc' := 16) (v := 1) hc_X0_room dX0_room_15 rfl rfl ?_
      obtain ⟨rfl, rfl⟩ := ret_of e
      exact v_iret hc_X0_room rfl dX0_room_16 rfl rfl
    rcases ite_cs e with ⟨c8, e⟩ | ⟨_, e⟩
    · refine v_catchH (ci := 26) (nm := "java/lang/UnsupportedOperationException") (pre := [(0, 10, 13, 13)]) (x := (0, 10, 17, 15)) (suf := []) ho_X0_room c8 rfl rfl (by decide) (by decide) (hpC (Or.inr ⟨by decide, "java/lang/IllegalArgumentException", q923, by decide +kernel⟩) hpN) q924 q1541 ?_
      refine v_astore (pc' := 19) (lv' := [(4, .ref zq6), (0, .ref x0), (1, .int x1), (2, .int x2), (3, .ref x3)]) hc_X0_room dX0_room_17 rfl (Nat.le_of_ble_eq_true rfl) rfl ?_
      refine v_iconst (pc' := 20) (v := 2) hc_X0_room dX0_room_19 rfl rfl ?_
      obtain ⟨rfl, rfl⟩ := ret_of e
      exact v_iret hc_X0_room rfl dX0_room_20 rfl rfl
    exact nomatch e
theorem w_X0_room (D : va_G) (l : Launch) (hl : l.stackTraces = false) (x0 : Nat) (x1 : Int32) (x2 : Int32) (x3 : Nat) (h : AH) {r : Int32} {hF : AH} (e : f_X0_room x0 x1 x2 x3 h = some (r, hF)) : MetV D l yX0_room (Cond.codeWith yX0_room cX0_room 5 (Option.some .int) [(0, 10, 13, 13), (0, 10, 17, 15)]) 15 366 [.ref x0, .int x1, .int x2, .ref x3] h hF (oI r) :=
  met_ofHF (by decide +kernel) hl (Nat.le_of_ble_eq_true rfl) rfl (v_X0_room D l hl [.ref x0, .int x1, .int x2, .ref x3] h x0 x1 x2 x3 h e)
/-! BlockPapersLaw.roomOf(LBlockPapers;II[J)I  -/
abbrev G_X0_roomOf (D : va_G) (l : Launch) (as : List Value) (h0 hF : AH) (o : Out) : CT := (D, l, (yX0_roomOf.cls, yX0_roomOf, cX0_roomOf, 5, (Option.some .int), 9, 179, [(0, 10, 13, 21), (0, 10, 17, 13)]), as, h0, hF, o)
theorem hc_X0_roomOf {D : va_G} {l : Launch} {as : List Value} {h0 hF : AH} {o : Out} : gC (G_X0_roomOf D l as h0 hF o) = cX0_roomOf := rfl
theorem ho_X0_roomOf {D : va_G} {l : Launch} {as : List Value} {h0 hF : AH} {o : Out} : gO (G_X0_roomOf D l as h0 hF o) = "BlockPapersLaw" := rfl
def f_X0_roomOf (x0 : Nat) (x1 : Int32) (x2 : Int32) (x3 : Nat) (h : AH) : Option (Int32 × AH) :=
  gd (isC h 0 x0) <|
  bdX (f_X1_roomOf x0 x1 x2 h) (fun zq6 h3 =>
    if isX h3 22 zq6 = true then (
      some ((1 : Int32), h3)
    ) else (
    if isX h3 21 zq6 = true then (
      some ((2 : Int32), h3)
    ) else (
    none))
  ) fun r2 h3 =>
  bd (stL h3 x3 (0 : Int32) r2.toInt64) fun h5 =>
  some ((0 : Int32), h5)
theorem v_X0_roomOf (D : va_G) (l : Launch) (hl : l.stackTraces = false) (as : List Value) (h0 : AH) {r : Int32} {hF : AH} (x0 : Nat) (x1 : Int32) (x2 : Int32) (x3 : Nat) (h : AH) (e : f_X0_roomOf x0 x1 x2 x3 h = some (r, hF)) : V (G_X0_roomOf D l as h0 hF (oI r)) h 0 [(0, .ref x0), (1, .int x1), (2, .int x2), (3, .ref x3)] [] := by
  unfold f_X0_roomOf at e
  refine v_aload_n (pc' := 1) hc_X0_roomOf dX0_roomOf_0 rfl rfl 3 rfl ?_
  refine v_iconst (pc' := 2) (v := 0) hc_X0_roomOf dX0_roomOf_1 rfl rfl ?_
  refine v_aload_n (pc' := 3) hc_X0_roomOf dX0_roomOf_2 rfl rfl 0 rfl ?_
  refine v_iload_n (pc' := 4) hc_X0_roomOf dX0_roomOf_3 rfl rfl 1 rfl ?_
  refine v_iload_n (pc' := 5) hc_X0_roomOf dX0_roomOf_4 rfl rfl 2 rfl ?_
  obtain ⟨c1, e⟩ := gd_of e
  rcases bdX_of e with ⟨r2, h3, e4, e⟩ | ⟨zq6, h3, e4, e⟩
  · refine k_V (pc' := 8) (ci := 0) (n := 2) hc_X0_roomOf ho_X0_roomOf rfl c1 (w_X1_roomOf D l hl x0 x1 x2 h e4) (wA_l q1641) q1642 (wA_l q1643) q75 q1644 hy_182 ⟨Nat.le_of_ble_eq_true rfl, Nat.le_of_ble_eq_true rfl⟩ rfl rfl (Nat.le_of_ble_eq_true rfl) dX0_roomOf_5 rfl (kS ?_) kN
    refine v_i2l (pc' := 9) hc_X0_roomOf dX0_roomOf_8 rfl ?_
    refine v_last (pc' := 10) hc_X0_roomOf dX0_roomOf_9 rfl e (fun h5 _ e => ?_)
    refine v_goto (pt := 21) hc_X0_roomOf dX0_roomOf_10 rfl ?_
    refine v_iconst (pc' := 22) (v := 0) hc_X0_roomOf dX0_roomOf_21 rfl rfl ?_
    obtain ⟨rfl, rfl⟩ := ret_of e
    exact v_iret hc_X0_roomOf rfl dX0_roomOf_22 rfl rfl
  · refine k_V (pc' := 8) (ci := 0) (n := 2) hc_X0_roomOf ho_X0_roomOf rfl c1 (w_X1_roomOf D l hl x0 x1 x2 h e4) (wA_l q1641) q1642 (wA_l q1643) q75 q1644 hy_182 ⟨Nat.le_of_ble_eq_true rfl, Nat.le_of_ble_eq_true rfl⟩ rfl rfl (Nat.le_of_ble_eq_true rfl) dX0_roomOf_5 rfl kM (kX ?_)
    rcases ite_cs e with ⟨c7, e⟩ | ⟨_, e⟩
    · refine v_catchH (ci := 22) (nm := "java/lang/IndexOutOfBoundsException") (pre := []) (x := (0, 10, 13, 21)) (suf := [(0, 10, 17, 13)]) ho_X0_roomOf c7 rfl rfl (by decide) (by decide) hpN q1557 q1156 ?_
      refine v_astore (pc' := 15) (lv' := [(4, .ref zq6), (0, .ref x0), (1, .int x1), (2, .int x2), (3, .ref x3)]) hc_X0_roomOf dX0_roomOf_13 rfl (Nat.le_of_ble_eq_true rfl) rfl ?_
      refine v_iconst (pc' := 16) (v := 1) hc_X0_roomOf dX0_roomOf_15 rfl rfl ?_
      obtain ⟨rfl, rfl⟩ := ret_of e
      exact v_iret hc_X0_roomOf rfl dX0_roomOf_16 rfl rfl
    rcases ite_cs e with ⟨c8, e⟩ | ⟨_, e⟩
    · refine v_catchH (ci := 21) (nm := "java/lang/IllegalArgumentException") (pre := [(0, 10, 13, 21)]) (x := (0, 10, 17, 13)) (suf := []) ho_X0_roomOf c8 rfl rfl (by decide) (by decide) (hpC (Or.inr ⟨by decide, "java/lang/IndexOutOfBoundsException", q1557, by decide +kernel⟩) hpN) q923 q274 ?_
      refine v_astore (pc' := 19) (lv' := [(4, .ref zq6), (0, .ref x0), (1, .int x1), (2, .int x2), (3, .ref x3)]) hc_X0_roomOf dX0_roomOf_17 rfl (Nat.le_of_ble_eq_true rfl) rfl ?_
      refine v_iconst (pc' := 20) (v := 2) hc_X0_roomOf dX0_roomOf_19 rfl rfl ?_
      obtain ⟨rfl, rfl⟩ := ret_of e
      exact v_iret hc_X0_roomOf rfl dX0_roomOf_20 rfl rfl
    exact nomatch e
theorem w_X0_roomOf (D : va_G) (l : Launch) (hl : l.stackTraces = false) (x0 : Nat) (x1 : Int32) (x2 : Int32) (x3 : Nat) (h : AH) {r : Int32} {hF : AH} (e : f_X0_roomOf x0 x1 x2 x3 h = some (r, hF)) : MetV D l yX0_roomOf (Cond.codeWith yX0_roomOf cX0_roomOf 5 (Option.some .int) [(0, 10, 13, 21), (0, 10, 17, 13)]) 9 179 [.ref x0, .int x1, .int x2, .ref x3] h hF (oI r) :=
  met_ofHF (by decide +kernel) hl (Nat.le_of_ble_eq_true rfl) rfl (v_X0_roomOf D l hl [.ref x0, .int x1, .int x2, .ref x3] h x0 x1 x2 x3 h e)
/-! BlockPapersLaw.dropOf(LBlockPapers;III[J)I  -/
abbrev G_X0_dropOf (D : va_G) (l : Launch) (as : List Value) (h0 hF : AH) (o : Out) : CT := (D, l, (yX0_dropOf.cls, yX0_dropOf, cX0_dropOf, 6, (Option.some .int), 9, 158, [(0, 12, 15, 21), (0, 12, 19, 55), (0, 12, 23, 13)]), as, h0, hF, o)
theorem hc_X0_dropOf {D : va_G} {l : Launch} {as : List Value} {h0 hF : AH} {o : Out} : gC (G_X0_dropOf D l as h0 hF o) = cX0_dropOf := rfl
theorem ho_X0_dropOf {D : va_G} {l : Launch} {as : List Value} {h0 hF : AH} {o : Out} : gO (G_X0_dropOf D l as h0 hF o) = "BlockPapersLaw" := rfl
def f_X0_dropOf (x0 : Nat) (x1 : Int32) (x2 : Int32) (x3 : Int32) (x4 : Nat) (h : AH) : Option (Int32 × AH) :=
  gd (isC h 0 x0) <|
  bdX (f_X1_dropOf x0 x1 x2 x3 h) (fun zq6 h3 =>
    if isX h3 22 zq6 = true then (
      some ((1 : Int32), h3)
    ) else (
    if isX h3 24 zq6 = true then (
      some ((2 : Int32), h3)
    ) else (
    if isX h3 21 zq6 = true then (
      some ((3 : Int32), h3)
    ) else (
    none)))
  ) fun r2 h3 =>
  bd (stL h3 x4 (0 : Int32) r2.toInt64) fun h5 =>
  some ((0 : Int32), h5)
theorem v_X0_dropOf (D : va_G) (l : Launch) (hl : l.stackTraces = false) (as : List Value) (h0 : AH) {r : Int32} {hF : AH} (x0 : Nat) (x1 : Int32) (x2 : Int32) (x3 : Int32) (x4 : Nat) (h : AH) (e : f_X0_dropOf x0 x1 x2 x3 x4 h = some (r, hF)) : V (G_X0_dropOf D l as h0 hF (oI r)) h 0 [(0, .ref x0), (1, .int x1), (2, .int x2), (3, .int x3), (4, .ref x4)] [] := by
  unfold f_X0_dropOf at e
  refine v_aload (pc' := 2) hc_X0_dropOf dX0_dropOf_0 rfl 4 rfl ?_
  refine v_iconst (pc' := 3) (v := 0) hc_X0_dropOf dX0_dropOf_2 rfl rfl ?_
  refine v_aload_n (pc' := 4) hc_X0_dropOf dX0_dropOf_3 rfl rfl 0 rfl ?_
  refine v_iload_n (pc' := 5) hc_X0_dropOf dX0_dropOf_4 rfl rfl 1 rfl ?_
  refine v_iload_n (pc' := 6) hc_X0_dropOf dX0_dropOf_5 rfl rfl 2 rfl ?_
  refine v_iload_n (pc' := 7) hc_X0_dropOf dX0_dropOf_6 rfl rfl 3 rfl ?_
  obtain ⟨c1, e⟩ := gd_of e
  rcases bdX_of e with ⟨r2, h3, e4, e⟩ | ⟨zq6, h3, e4, e⟩
  · refine k_V (pc' := 10) (ci := 0) (n := 3) hc_X0_dropOf ho_X0_dropOf rfl c1 (w_X1_dropOf D l hl x0 x1 x2 x3 h e4) (wA_l q1653) q1654 (wA_l q1655) q75 q1656 hy_189 ⟨Nat.le_of_ble_eq_true rfl, Nat.le_of_ble_eq_true rfl⟩ rfl rfl (Nat.le_of_ble_eq_true rfl) dX0_dropOf_7 rfl (kS ?_) kN
    refine v_i2l (pc' := 11) hc_X0_dropOf dX0_dropOf_10 rfl ?_
    refine v_last (pc' := 12) hc_X0_dropOf dX0_dropOf_11 rfl e (fun h5 _ e => ?_)
    refine v_goto (pt := 27) hc_X0_dropOf dX0_dropOf_12 rfl ?_
    refine v_iconst (pc' := 28) (v := 0) hc_X0_dropOf dX0_dropOf_27 rfl rfl ?_
    obtain ⟨rfl, rfl⟩ := ret_of e
    exact v_iret hc_X0_dropOf rfl dX0_dropOf_28 rfl rfl
  · refine k_V (pc' := 10) (ci := 0) (n := 3) hc_X0_dropOf ho_X0_dropOf rfl c1 (w_X1_dropOf D l hl x0 x1 x2 x3 h e4) (wA_l q1653) q1654 (wA_l q1655) q75 q1656 hy_189 ⟨Nat.le_of_ble_eq_true rfl, Nat.le_of_ble_eq_true rfl⟩ rfl rfl (Nat.le_of_ble_eq_true rfl) dX0_dropOf_7 rfl kM (kX ?_)
    rcases ite_cs e with ⟨c7, e⟩ | ⟨_, e⟩
    · refine v_catchH (ci := 22) (nm := "java/lang/IndexOutOfBoundsException") (pre := []) (x := (0, 12, 15, 21)) (suf := [(0, 12, 19, 55), (0, 12, 23, 13)]) ho_X0_dropOf c7 rfl rfl (by decide) (by decide) hpN q1557 q1156 ?_
      refine v_astore (pc' := 17) (lv' := [(5, .ref zq6), (0, .ref x0), (1, .int x1), (2, .int x2), (3, .int x3), (4, .ref x4)]) hc_X0_dropOf dX0_dropOf_15 rfl (Nat.le_of_ble_eq_true rfl) rfl ?_
      refine v_iconst (pc' := 18) (v := 1) hc_X0_dropOf dX0_dropOf_17 rfl rfl ?_
      obtain ⟨rfl, rfl⟩ := ret_of e
      exact v_iret hc_X0_dropOf rfl dX0_dropOf_18 rfl rfl
    rcases ite_cs e with ⟨c8, e⟩ | ⟨_, e⟩
    · refine v_catchH (ci := 24) (nm := "java/util/NoSuchElementException") (pre := [(0, 12, 15, 21)]) (x := (0, 12, 19, 55)) (suf := [(0, 12, 23, 13)]) ho_X0_dropOf c8 rfl rfl (by decide) (by decide) (hpC (Or.inr ⟨by decide, "java/lang/IndexOutOfBoundsException", q1557, by decide +kernel⟩) hpN) q1652 q442 ?_
      refine v_astore (pc' := 21) (lv' := [(5, .ref zq6), (0, .ref x0), (1, .int x1), (2, .int x2), (3, .int x3), (4, .ref x4)]) hc_X0_dropOf dX0_dropOf_19 rfl (Nat.le_of_ble_eq_true rfl) rfl ?_
      refine v_iconst (pc' := 22) (v := 2) hc_X0_dropOf dX0_dropOf_21 rfl rfl ?_
      obtain ⟨rfl, rfl⟩ := ret_of e
      exact v_iret hc_X0_dropOf rfl dX0_dropOf_22 rfl rfl
    rcases ite_cs e with ⟨c9, e⟩ | ⟨_, e⟩
    · refine v_catchH (ci := 21) (nm := "java/lang/IllegalArgumentException") (pre := [(0, 12, 15, 21), (0, 12, 19, 55)]) (x := (0, 12, 23, 13)) (suf := []) ho_X0_dropOf c9 rfl rfl (by decide) (by decide) (hpC (Or.inr ⟨by decide, "java/lang/IndexOutOfBoundsException", q1557, by decide +kernel⟩) (hpC (Or.inr ⟨by decide, "java/util/NoSuchElementException", q1652, by decide +kernel⟩) hpN)) q923 q274 ?_
      refine v_astore (pc' := 25) (lv' := [(5, .ref zq6), (0, .ref x0), (1, .int x1), (2, .int x2), (3, .int x3), (4, .ref x4)]) hc_X0_dropOf dX0_dropOf_23 rfl (Nat.le_of_ble_eq_true rfl) rfl ?_
      refine v_iconst (pc' := 26) (v := 3) hc_X0_dropOf dX0_dropOf_25 rfl rfl ?_
      obtain ⟨rfl, rfl⟩ := ret_of e
      exact v_iret hc_X0_dropOf rfl dX0_dropOf_26 rfl rfl
    exact nomatch e
theorem w_X0_dropOf (D : va_G) (l : Launch) (hl : l.stackTraces = false) (x0 : Nat) (x1 : Int32) (x2 : Int32) (x3 : Int32) (x4 : Nat) (h : AH) {r : Int32} {hF : AH} (e : f_X0_dropOf x0 x1 x2 x3 x4 h = some (r, hF)) : MetV D l yX0_dropOf (Cond.codeWith yX0_dropOf cX0_dropOf 6 (Option.some .int) [(0, 12, 15, 21), (0, 12, 19, 55), (0, 12, 23, 13)]) 9 158 [.ref x0, .int x1, .int x2, .int x3, .ref x4] h hF (oI r) :=
  met_ofHF (by decide +kernel) hl (Nat.le_of_ble_eq_true rfl) rfl (v_X0_dropOf D l hl [.ref x0, .int x1, .int x2, .int x3, .ref x4] h x0 x1 x2 x3 x4 h e)
/-! BlockPapersLaw.hang(LBlockPapers;II[J)I  -/
abbrev G_X0_hang (D : va_G) (l : Launch) (as : List Value) (h0 hF : AH) (o : Out) : CT := (D, l, (yX0_hang.cls, yX0_hang, cX0_hang, 5, (Option.some .int), 15, 366, [(0, 10, 13, 21), (0, 10, 17, 15)]), as, h0, hF, o)
theorem hc_X0_hang {D : va_G} {l : Launch} {as : List Value} {h0 hF : AH} {o : Out} : gC (G_X0_hang D l as h0 hF o) = cX0_hang := rfl
theorem ho_X0_hang {D : va_G} {l : Launch} {as : List Value} {h0 hF : AH} {o : Out} : gO (G_X0_hang D l as h0 hF o) = "BlockPapersLaw" := rfl
def f_X0_hang (x0 : Nat) (x1 : Int32) (x2 : Int32) (x3 : Nat) (h : AH) : Option (Int32 × AH) :=
  gd (isC h 0 x0) <|
  bdX (f_X1_hang x0 x1 x2 h) (fun zq6 h3 =>
    if isX h3 22 zq6 = true then (
      some ((1 : Int32), h3)
    ) else (
    if isX h3 26 zq6 = true then (
      some ((2 : Int32), h3)
    ) else (
    none))
  ) fun r2 h3 =>
  bd (stL h3 x3 (0 : Int32) r2.toInt64) fun h5 =>
  some ((0 : Int32), h5)
theorem v_X0_hang (D : va_G) (l : Launch) (hl : l.stackTraces = false) (as : List Value) (h0 : AH) {r : Int32} {hF : AH} (x0 : Nat) (x1 : Int32) (x2 : Int32) (x3 : Nat) (h : AH) (e : f_X0_hang x0 x1 x2 x3 h = some (r, hF)) : V (G_X0_hang D l as h0 hF (oI r)) h 0 [(0, .ref x0), (1, .int x1), (2, .int x2), (3, .ref x3)] [] := by
  unfold f_X0_hang at e
  refine v_aload_n (pc' := 1) hc_X0_hang dX0_hang_0 rfl rfl 3 rfl ?_
  refine v_iconst (pc' := 2) (v := 0) hc_X0_hang dX0_hang_1 rfl rfl ?_
  refine v_aload_n (pc' := 3) hc_X0_hang dX0_hang_2 rfl rfl 0 rfl ?_
  refine v_iload_n (pc' := 4) hc_X0_hang dX0_hang_3 rfl rfl 1 rfl ?_
  refine v_iload_n (pc' := 5) hc_X0_hang dX0_hang_4 rfl rfl 2 rfl ?_
  obtain ⟨c1, e⟩ := gd_of e
  rcases bdX_of e with ⟨r2, h3, e4, e⟩ | ⟨zq6, h3, e4, e⟩
  · refine k_V (pc' := 8) (ci := 0) (n := 2) hc_X0_hang ho_X0_hang rfl c1 (w_X1_hang D l hl x0 x1 x2 h e4) (wA_l q1662) q1663 (wA_l q1664) q75 q1665 hy_192 ⟨Nat.le_of_ble_eq_true rfl, Nat.le_of_ble_eq_true rfl⟩ rfl rfl (Nat.le_of_ble_eq_true rfl) dX0_hang_5 rfl (kS ?_) kN
    refine v_i2l (pc' := 9) hc_X0_hang dX0_hang_8 rfl ?_
    refine v_last (pc' := 10) hc_X0_hang dX0_hang_9 rfl e (fun h5 _ e => ?_)
    refine v_goto (pt := 21) hc_X0_hang dX0_hang_10 rfl ?_
    refine v_iconst (pc' := 22) (v := 0) hc_X0_hang dX0_hang_21 rfl rfl ?_
    obtain ⟨rfl, rfl⟩ := ret_of e
    exact v_iret hc_X0_hang rfl dX0_hang_22 rfl rfl
  · refine k_V (pc' := 8) (ci := 0) (n := 2) hc_X0_hang ho_X0_hang rfl c1 (w_X1_hang D l hl x0 x1 x2 h e4) (wA_l q1662) q1663 (wA_l q1664) q75 q1665 hy_192 ⟨Nat.le_of_ble_eq_true rfl, Nat.le_of_ble_eq_true rfl⟩ rfl rfl (Nat.le_of_ble_eq_true rfl) dX0_hang_5 rfl kM (kX ?_)
    rcases ite_cs e with ⟨c7, e⟩ | ⟨_, e⟩
    · refine v_catchH (ci := 22) (nm := "java/lang/IndexOutOfBoundsException") (pre := []) (x := (0, 10, 13, 21)) (suf := [(0, 10, 17, 15)]) ho_X0_hang c7 rfl rfl (by decide) (by decide) hpN q1557 q1156 ?_
      refine v_astore (pc' := 15) (lv' := [(4, .ref zq6), (0, .ref x0), (1, .int x1), (2, .int x2), (3, .ref x3)]) hc_X0_hang dX0_hang_13 rfl (Nat.le_of_ble_eq_true rfl) rfl ?_
      refine v_iconst (pc' := 16) (v := 1) hc_X0_hang dX0_hang_15 rfl rfl ?_
      obtain ⟨rfl, rfl⟩ := ret_of e
      exact v_iret hc_X0_hang rfl dX0_hang_16 rfl rfl
    rcases ite_cs e with ⟨c8, e⟩ | ⟨_, e⟩
    · refine v_catchH (ci := 26) (nm := "java/lang/UnsupportedOperationException") (pre := [(0, 10, 13, 21)]) (x := (0, 10, 17, 15)) (suf := []) ho_X0_hang c8 rfl rfl (by decide) (by decide) (hpC (Or.inr ⟨by decide, "java/lang/IndexOutOfBoundsException", q1557, by decide +kernel⟩) hpN) q924 q1541 ?_
      refine v_astore (pc' := 19) (lv' := [(4, .ref zq6), (0, .ref x0), (1, .int x1), (2, .int x2), (3, .ref x3)]) hc_X0_hang dX0_hang_17 rfl (Nat.le_of_ble_eq_true rfl) rfl ?_
      refine v_iconst (pc' := 20) (v := 2) hc_X0_hang dX0_hang_19 rfl rfl ?_
      obtain ⟨rfl, rfl⟩ := ret_of e
      exact v_iret hc_X0_hang rfl dX0_hang_20 rfl rfl
    exact nomatch e
theorem w_X0_hang (D : va_G) (l : Launch) (hl : l.stackTraces = false) (x0 : Nat) (x1 : Int32) (x2 : Int32) (x3 : Nat) (h : AH) {r : Int32} {hF : AH} (e : f_X0_hang x0 x1 x2 x3 h = some (r, hF)) : MetV D l yX0_hang (Cond.codeWith yX0_hang cX0_hang 5 (Option.some .int) [(0, 10, 13, 21), (0, 10, 17, 15)]) 15 366 [.ref x0, .int x1, .int x2, .ref x3] h hF (oI r) :=
  met_ofHF (by decide +kernel) hl (Nat.le_of_ble_eq_true rfl) rfl (v_X0_hang D l hl [.ref x0, .int x1, .int x2, .ref x3] h x0 x1 x2 x3 h e)
/-! BlockPapersLaw.why(LBlockPapers;IIZ[J)I  -/
abbrev G_X0_why (D : va_G) (l : Launch) (as : List Value) (h0 hF : AH) (o : Out) : CT := (D, l, (yX0_why.cls, yX0_why, cX0_why, 6, (Option.some .int), 9, 226, [(0, 12, 15, 21)]), as, h0, hF, o)
theorem hc_X0_why {D : va_G} {l : Launch} {as : List Value} {h0 hF : AH} {o : Out} : gC (G_X0_why D l as h0 hF o) = cX0_why := rfl
theorem ho_X0_why {D : va_G} {l : Launch} {as : List Value} {h0 hF : AH} {o : Out} : gO (G_X0_why D l as h0 hF o) = "BlockPapersLaw" := rfl
def f_X0_why (x0 : Nat) (x1 : Int32) (x2 : Int32) (x3 : Int32) (x4 : Nat) (h : AH) : Option (Int32 × AH) :=
  gd (isC h 0 x0) <|
  bdX (f_X1_why x0 x1 x2 x3 h) (fun zq6 h3 =>
    if isX h3 22 zq6 = true then (
      some ((1 : Int32), h3)
    ) else (
    none)
  ) fun r2 h3 =>
  bd (stL h3 x4 (0 : Int32) r2.toInt64) fun h5 =>
  some ((0 : Int32), h5)
theorem v_X0_why (D : va_G) (l : Launch) (hl : l.stackTraces = false) (as : List Value) (h0 : AH) {r : Int32} {hF : AH} (x0 : Nat) (x1 : Int32) (x2 : Int32) (x3 : Int32) (x4 : Nat) (h : AH) (e : f_X0_why x0 x1 x2 x3 x4 h = some (r, hF)) : V (G_X0_why D l as h0 hF (oI r)) h 0 [(0, .ref x0), (1, .int x1), (2, .int x2), (3, .int x3), (4, .ref x4)] [] := by
  unfold f_X0_why at e
  refine v_aload (pc' := 2) hc_X0_why dX0_why_0 rfl 4 rfl ?_
  refine v_iconst (pc' := 3) (v := 0) hc_X0_why dX0_why_2 rfl rfl ?_
  refine v_aload_n (pc' := 4) hc_X0_why dX0_why_3 rfl rfl 0 rfl ?_
  refine v_iload_n (pc' := 5) hc_X0_why dX0_why_4 rfl rfl 1 rfl ?_
  refine v_iload_n (pc' := 6) hc_X0_why dX0_why_5 rfl rfl 2 rfl ?_
  refine v_iload_n (pc' := 7) hc_X0_why dX0_why_6 rfl rfl 3 rfl ?_
  obtain ⟨c1, e⟩ := gd_of e
  rcases bdX_of e with ⟨r2, h3, e4, e⟩ | ⟨zq6, h3, e4, e⟩
  · refine k_V (pc' := 10) (ci := 0) (n := 3) hc_X0_why ho_X0_why rfl c1 (w_X1_why D l hl x0 x1 x2 x3 h e4) (wA_l q1670) q1671 (wA_l q1672) q75 q1673 hy_198 ⟨Nat.le_of_ble_eq_true rfl, Nat.le_of_ble_eq_true rfl⟩ rfl rfl (Nat.le_of_ble_eq_true rfl) dX0_why_7 rfl (kS ?_) kN
    refine v_i2l (pc' := 11) hc_X0_why dX0_why_10 rfl ?_
    refine v_last (pc' := 12) hc_X0_why dX0_why_11 rfl e (fun h5 _ e => ?_)
    refine v_goto (pt := 19) hc_X0_why dX0_why_12 rfl ?_
    refine v_iconst (pc' := 20) (v := 0) hc_X0_why dX0_why_19 rfl rfl ?_
    obtain ⟨rfl, rfl⟩ := ret_of e
    exact v_iret hc_X0_why rfl dX0_why_20 rfl rfl
  · refine k_V (pc' := 10) (ci := 0) (n := 3) hc_X0_why ho_X0_why rfl c1 (w_X1_why D l hl x0 x1 x2 x3 h e4) (wA_l q1670) q1671 (wA_l q1672) q75 q1673 hy_198 ⟨Nat.le_of_ble_eq_true rfl, Nat.le_of_ble_eq_true rfl⟩ rfl rfl (Nat.le_of_ble_eq_true rfl) dX0_why_7 rfl kM (kX ?_)
    rcases ite_cs e with ⟨c7, e⟩ | ⟨_, e⟩
    · refine v_catchH (ci := 22) (nm := "java/lang/IndexOutOfBoundsException") (pre := []) (x := (0, 12, 15, 21)) (suf := []) ho_X0_why c7 rfl rfl (by decide) (by decide) hpN q1557 q1156 ?_
      refine v_astore (pc' := 17) (lv' := [(5, .ref zq6), (0, .ref x0), (1, .int x1), (2, .int x2), (3, .int x3), (4, .ref x4)]) hc_X0_why dX0_why_15 rfl (Nat.le_of_ble_eq_true rfl) rfl ?_
      refine v_iconst (pc' := 18) (v := 1) hc_X0_why dX0_why_17 rfl rfl ?_
      obtain ⟨rfl, rfl⟩ := ret_of e
      exact v_iret hc_X0_why rfl dX0_why_18 rfl rfl
    exact nomatch e
theorem w_X0_why (D : va_G) (l : Launch) (hl : l.stackTraces = false) (x0 : Nat) (x1 : Int32) (x2 : Int32) (x3 : Int32) (x4 : Nat) (h : AH) {r : Int32} {hF : AH} (e : f_X0_why x0 x1 x2 x3 x4 h = some (r, hF)) : MetV D l yX0_why (Cond.codeWith yX0_why cX0_why 6 (Option.some .int) [(0, 12, 15, 21)]) 9 226 [.ref x0, .int x1, .int x2, .int x3, .ref x4] h hF (oI r) :=
  met_ofHF (by decide +kernel) hl (Nat.le_of_ble_eq_true rfl) rfl (v_X0_why D l hl [.ref x0, .int x1, .int x2, .int x3, .ref x4] h x0 x1 x2 x3 x4 h e)
/-! BlockPapersLaw.strip(LBlockPapers;I[J)I  -/
abbrev G_X0_strip (D : va_G) (l : Launch) (as : List Value) (h0 hF : AH) (o : Out) : CT := (D, l, (yX0_strip.cls, yX0_strip, cX0_strip, 4, (Option.some .int), 15, 365, [(0, 9, 12, 21), (0, 9, 15, 15)]), as, h0, hF, o)
theorem hc_X0_strip {D : va_G} {l : Launch} {as : List Value} {h0 hF : AH} {o : Out} : gC (G_X0_strip D l as h0 hF o) = cX0_strip := rfl
theorem ho_X0_strip {D : va_G} {l : Launch} {as : List Value} {h0 hF : AH} {o : Out} : gO (G_X0_strip D l as h0 hF o) = "BlockPapersLaw" := rfl
def f_X0_strip (x0 : Nat) (x1 : Int32) (x2 : Nat) (h : AH) : Option (Int32 × AH) :=
  gd (isC h 0 x0) <|
  bdX (f_X1_strip x0 x1 h) (fun zq6 h3 =>
    if isX h3 22 zq6 = true then (
      some ((1 : Int32), h3)
    ) else (
    if isX h3 26 zq6 = true then (
      some ((2 : Int32), h3)
    ) else (
    none))
  ) fun r2 h3 =>
  bd (stL h3 x2 (0 : Int32) r2.toInt64) fun h5 =>
  some ((0 : Int32), h5)
theorem v_X0_strip (D : va_G) (l : Launch) (hl : l.stackTraces = false) (as : List Value) (h0 : AH) {r : Int32} {hF : AH} (x0 : Nat) (x1 : Int32) (x2 : Nat) (h : AH) (e : f_X0_strip x0 x1 x2 h = some (r, hF)) : V (G_X0_strip D l as h0 hF (oI r)) h 0 [(0, .ref x0), (1, .int x1), (2, .ref x2)] [] := by
  unfold f_X0_strip at e
  refine v_aload_n (pc' := 1) hc_X0_strip dX0_strip_0 rfl rfl 2 rfl ?_
  refine v_iconst (pc' := 2) (v := 0) hc_X0_strip dX0_strip_1 rfl rfl ?_
  refine v_aload_n (pc' := 3) hc_X0_strip dX0_strip_2 rfl rfl 0 rfl ?_
  refine v_iload_n (pc' := 4) hc_X0_strip dX0_strip_3 rfl rfl 1 rfl ?_
  obtain ⟨c1, e⟩ := gd_of e
  rcases bdX_of e with ⟨r2, h3, e4, e⟩ | ⟨zq6, h3, e4, e⟩
  · refine k_V (pc' := 7) (ci := 0) (n := 1) hc_X0_strip ho_X0_strip rfl c1 (w_X1_strip D l hl x0 x1 h e4) (wA_l q1679) q1680 (wA_l q1681) q75 q1682 hy_201 ⟨Nat.le_of_ble_eq_true rfl, Nat.le_of_ble_eq_true rfl⟩ rfl rfl (Nat.le_of_ble_eq_true rfl) dX0_strip_4 rfl (kS ?_) kN
    refine v_i2l (pc' := 8) hc_X0_strip dX0_strip_7 rfl ?_
    refine v_last (pc' := 9) hc_X0_strip dX0_strip_8 rfl e (fun h5 _ e => ?_)
    refine v_goto (pt := 18) hc_X0_strip dX0_strip_9 rfl ?_
    refine v_iconst (pc' := 19) (v := 0) hc_X0_strip dX0_strip_18 rfl rfl ?_
    obtain ⟨rfl, rfl⟩ := ret_of e
    exact v_iret hc_X0_strip rfl dX0_strip_19 rfl rfl
  · refine k_V (pc' := 7) (ci := 0) (n := 1) hc_X0_strip ho_X0_strip rfl c1 (w_X1_strip D l hl x0 x1 h e4) (wA_l q1679) q1680 (wA_l q1681) q75 q1682 hy_201 ⟨Nat.le_of_ble_eq_true rfl, Nat.le_of_ble_eq_true rfl⟩ rfl rfl (Nat.le_of_ble_eq_true rfl) dX0_strip_4 rfl kM (kX ?_)
    rcases ite_cs e with ⟨c7, e⟩ | ⟨_, e⟩
    · refine v_catchH (ci := 22) (nm := "java/lang/IndexOutOfBoundsException") (pre := []) (x := (0, 9, 12, 21)) (suf := [(0, 9, 15, 15)]) ho_X0_strip c7 rfl rfl (by decide) (by decide) hpN q1557 q1156 ?_
      refine v_astore_n (pc' := 13) (lv' := [(3, .ref zq6), (0, .ref x0), (1, .int x1), (2, .ref x2)]) hc_X0_strip dX0_strip_12 rfl rfl (Nat.le_of_ble_eq_true rfl) rfl ?_
      refine v_iconst (pc' := 14) (v := 1) hc_X0_strip dX0_strip_13 rfl rfl ?_
      obtain ⟨rfl, rfl⟩ := ret_of e
      exact v_iret hc_X0_strip rfl dX0_strip_14 rfl rfl
    rcases ite_cs e with ⟨c8, e⟩ | ⟨_, e⟩
    · refine v_catchH (ci := 26) (nm := "java/lang/UnsupportedOperationException") (pre := [(0, 9, 12, 21)]) (x := (0, 9, 15, 15)) (suf := []) ho_X0_strip c8 rfl rfl (by decide) (by decide) (hpC (Or.inr ⟨by decide, "java/lang/IndexOutOfBoundsException", q1557, by decide +kernel⟩) hpN) q924 q1541 ?_
      refine v_astore_n (pc' := 16) (lv' := [(3, .ref zq6), (0, .ref x0), (1, .int x1), (2, .ref x2)]) hc_X0_strip dX0_strip_15 rfl rfl (Nat.le_of_ble_eq_true rfl) rfl ?_
      refine v_iconst (pc' := 17) (v := 2) hc_X0_strip dX0_strip_16 rfl rfl ?_
      obtain ⟨rfl, rfl⟩ := ret_of e
      exact v_iret hc_X0_strip rfl dX0_strip_17 rfl rfl
    exact nomatch e
theorem w_X0_strip (D : va_G) (l : Launch) (hl : l.stackTraces = false) (x0 : Nat) (x1 : Int32) (x2 : Nat) (h : AH) {r : Int32} {hF : AH} (e : f_X0_strip x0 x1 x2 h = some (r, hF)) : MetV D l yX0_strip (Cond.codeWith yX0_strip cX0_strip 4 (Option.some .int) [(0, 9, 12, 21), (0, 9, 15, 15)]) 15 365 [.ref x0, .int x1, .ref x2] h hF (oI r) :=
  met_ofHF (by decide +kernel) hl (Nat.le_of_ble_eq_true rfl) rfl (v_X0_strip D l hl [.ref x0, .int x1, .ref x2] h x0 x1 x2 h e)
/-! BlockPapersLaw.isMatched(LBlockPapers;I[J)I  -/
abbrev G_X0_isMatched (D : va_G) (l : Launch) (as : List Value) (h0 hF : AH) (o : Out) : CT := (D, l, (yX0_isMatched.cls, yX0_isMatched, cX0_isMatched, 4, (Option.some .int), 9, 179, [(0, 16, 19, 21)]), as, h0, hF, o)
theorem hc_X0_isMatched {D : va_G} {l : Launch} {as : List Value} {h0 hF : AH} {o : Out} : gC (G_X0_isMatched D l as h0 hF o) = cX0_isMatched := rfl
theorem ho_X0_isMatched {D : va_G} {l : Launch} {as : List Value} {h0 hF : AH} {o : Out} : gO (G_X0_isMatched D l as h0 hF o) = "BlockPapersLaw" := rfl
def f_X0_isMatched (x0 : Nat) (x1 : Int32) (x2 : Nat) (h : AH) : Option (Int32 × AH) :=
  gd (isC h 0 x0) <|
  bdX (f_X1_isMatched x0 x1 h) (fun zq7 h3 =>
    if isX h3 22 zq7 = true then (
      some ((1 : Int32), h3)
    ) else (
    none)
  ) fun r2 h3 =>
  if r2 = 0 then (
    bd (stL h3 x2 (0 : Int32) (0 : Int64)) fun h5 =>
    some ((0 : Int32), h5)
  ) else (
    bd (stL h3 x2 (0 : Int32) (1 : Int64)) fun h6 =>
    some ((0 : Int32), h6)
  )
theorem v_X0_isMatched (D : va_G) (l : Launch) (hl : l.stackTraces = false) (as : List Value) (h0 : AH) {r : Int32} {hF : AH} (x0 : Nat) (x1 : Int32) (x2 : Nat) (h : AH) (e : f_X0_isMatched x0 x1 x2 h = some (r, hF)) : V (G_X0_isMatched D l as h0 hF (oI r)) h 0 [(0, .ref x0), (1, .int x1), (2, .ref x2)] [] := by
  unfold f_X0_isMatched at e
  refine v_aload_n (pc' := 1) hc_X0_isMatched dX0_isMatched_0 rfl rfl 2 rfl ?_
  refine v_iconst (pc' := 2) (v := 0) hc_X0_isMatched dX0_isMatched_1 rfl rfl ?_
  refine v_aload_n (pc' := 3) hc_X0_isMatched dX0_isMatched_2 rfl rfl 0 rfl ?_
  refine v_iload_n (pc' := 4) hc_X0_isMatched dX0_isMatched_3 rfl rfl 1 rfl ?_
  obtain ⟨c1, e⟩ := gd_of e
  rcases bdX_of e with ⟨r2, h3, e4, e⟩ | ⟨zq7, h3, e4, e⟩
  · refine k_V (pc' := 7) (ci := 0) (n := 1) hc_X0_isMatched ho_X0_isMatched rfl c1 (w_X1_isMatched D l hl x0 x1 h e4) (wA_l q1687) q1688 (wA_l q1689) q75 q1690 hy_205 ⟨Nat.le_of_ble_eq_true rfl, Nat.le_of_ble_eq_true rfl⟩ rfl rfl (Nat.le_of_ble_eq_true rfl) dX0_isMatched_4 rfl (kS ?_) kN
    refine v_if_eq (pt := 14) (pf := 10) hc_X0_isMatched dX0_isMatched_7 rfl rfl e (fun _ e => ?_) (fun _ e => ?_)
    · refine v_lconst (pc' := 15) (v := 0) hc_X0_isMatched dX0_isMatched_14 rfl rfl ?_
      refine v_last (pc' := 16) hc_X0_isMatched dX0_isMatched_15 rfl e (fun h5 _ e => ?_)
      refine v_goto (pt := 22) hc_X0_isMatched dX0_isMatched_16 rfl ?_
      refine v_iconst (pc' := 23) (v := 0) hc_X0_isMatched dX0_isMatched_22 rfl rfl ?_
      obtain ⟨rfl, rfl⟩ := ret_of e
      exact v_iret hc_X0_isMatched rfl dX0_isMatched_23 rfl rfl
    · refine v_lconst (pc' := 11) (v := 1) hc_X0_isMatched dX0_isMatched_10 rfl rfl ?_
      refine v_goto (pt := 15) hc_X0_isMatched dX0_isMatched_11 rfl ?_
      refine v_last (pc' := 16) hc_X0_isMatched dX0_isMatched_15 rfl e (fun h6 _ e => ?_)
      refine v_goto (pt := 22) hc_X0_isMatched dX0_isMatched_16 rfl ?_
      refine v_iconst (pc' := 23) (v := 0) hc_X0_isMatched dX0_isMatched_22 rfl rfl ?_
      obtain ⟨rfl, rfl⟩ := ret_of e
      exact v_iret hc_X0_isMatched rfl dX0_isMatched_23 rfl rfl
  · refine k_V (pc' := 7) (ci := 0) (n := 1) hc_X0_isMatched ho_X0_isMatched rfl c1 (w_X1_isMatched D l hl x0 x1 h e4) (wA_l q1687) q1688 (wA_l q1689) q75 q1690 hy_205 ⟨Nat.le_of_ble_eq_true rfl, Nat.le_of_ble_eq_true rfl⟩ rfl rfl (Nat.le_of_ble_eq_true rfl) dX0_isMatched_4 rfl kM (kX ?_)
    rcases ite_cs e with ⟨c8, e⟩ | ⟨_, e⟩
    · refine v_catchH (ci := 22) (nm := "java/lang/IndexOutOfBoundsException") (pre := []) (x := (0, 16, 19, 21)) (suf := []) ho_X0_isMatched c8 rfl rfl (by decide) (by decide) hpN q1557 q1156 ?_
      refine v_astore_n (pc' := 20) (lv' := [(3, .ref zq7), (0, .ref x0), (1, .int x1), (2, .ref x2)]) hc_X0_isMatched dX0_isMatched_19 rfl rfl (Nat.le_of_ble_eq_true rfl) rfl ?_
      refine v_iconst (pc' := 21) (v := 1) hc_X0_isMatched dX0_isMatched_20 rfl rfl ?_
      obtain ⟨rfl, rfl⟩ := ret_of e
      exact v_iret hc_X0_isMatched rfl dX0_isMatched_21 rfl rfl
    exact nomatch e
theorem w_X0_isMatched (D : va_G) (l : Launch) (hl : l.stackTraces = false) (x0 : Nat) (x1 : Int32) (x2 : Nat) (h : AH) {r : Int32} {hF : AH} (e : f_X0_isMatched x0 x1 x2 h = some (r, hF)) : MetV D l yX0_isMatched (Cond.codeWith yX0_isMatched cX0_isMatched 4 (Option.some .int) [(0, 16, 19, 21)]) 9 179 [.ref x0, .int x1, .ref x2] h hF (oI r) :=
  met_ofHF (by decide +kernel) hl (Nat.le_of_ble_eq_true rfl) rfl (v_X0_isMatched D l hl [.ref x0, .int x1, .ref x2] h x0 x1 x2 h e)
/-! BlockPapersLaw.bestRoll(LBlockPapers;I[J)I  -/
abbrev G_X0_bestRoll (D : va_G) (l : Launch) (as : List Value) (h0 hF : AH) (o : Out) : CT := (D, l, (yX0_bestRoll.cls, yX0_bestRoll, cX0_bestRoll, 4, (Option.some .int), 10, 246, [(0, 9, 12, 21), (0, 9, 15, 55)]), as, h0, hF, o)
theorem hc_X0_bestRoll {D : va_G} {l : Launch} {as : List Value} {h0 hF : AH} {o : Out} : gC (G_X0_bestRoll D l as h0 hF o) = cX0_bestRoll := rfl
theorem ho_X0_bestRoll {D : va_G} {l : Launch} {as : List Value} {h0 hF : AH} {o : Out} : gO (G_X0_bestRoll D l as h0 hF o) = "BlockPapersLaw" := rfl
def f_X0_bestRoll (x0 : Nat) (x1 : Int32) (x2 : Nat) (h : AH) : Option (Int32 × AH) :=
  gd (isC h 0 x0) <|
  bdX (f_X1_bestRoll x0 x1 h) (fun zq6 h3 =>
    if isX h3 22 zq6 = true then (
      some ((1 : Int32), h3)
    ) else (
    if isX h3 24 zq6 = true then (
      some ((2 : Int32), h3)
    ) else (
    none))
  ) fun r2 h3 =>
  bd (stL h3 x2 (0 : Int32) r2.toInt64) fun h5 =>
  some ((0 : Int32), h5)
theorem v_X0_bestRoll (D : va_G) (l : Launch) (hl : l.stackTraces = false) (as : List Value) (h0 : AH) {r : Int32} {hF : AH} (x0 : Nat) (x1 : Int32) (x2 : Nat) (h : AH) (e : f_X0_bestRoll x0 x1 x2 h = some (r, hF)) : V (G_X0_bestRoll D l as h0 hF (oI r)) h 0 [(0, .ref x0), (1, .int x1), (2, .ref x2)] [] := by
  unfold f_X0_bestRoll at e
  refine v_aload_n (pc' := 1) hc_X0_bestRoll dX0_bestRoll_0 rfl rfl 2 rfl ?_
  refine v_iconst (pc' := 2) (v := 0) hc_X0_bestRoll dX0_bestRoll_1 rfl rfl ?_
  refine v_aload_n (pc' := 3) hc_X0_bestRoll dX0_bestRoll_2 rfl rfl 0 rfl ?_
  refine v_iload_n (pc' := 4) hc_X0_bestRoll dX0_bestRoll_3 rfl rfl 1 rfl ?_
  obtain ⟨c1, e⟩ := gd_of e
  rcases bdX_of e with ⟨r2, h3, e4, e⟩ | ⟨zq6, h3, e4, e⟩
  · refine k_V (pc' := 7) (ci := 0) (n := 1) hc_X0_bestRoll ho_X0_bestRoll rfl c1 (w_X1_bestRoll D l hl x0 x1 h e4) (wA_l q1694) q1695 (wA_l q1696) q75 q1697 hy_208 ⟨Nat.le_of_ble_eq_true rfl, Nat.le_of_ble_eq_true rfl⟩ rfl rfl (Nat.le_of_ble_eq_true rfl) dX0_bestRoll_4 rfl (kS ?_) kN
    refine v_i2l (pc' := 8) hc_X0_bestRoll dX0_bestRoll_7 rfl ?_
    refine v_last (pc' := 9) hc_X0_bestRoll dX0_bestRoll_8 rfl e (fun h5 _ e => ?_)
    refine v_goto (pt := 18) hc_X0_bestRoll dX0_bestRoll_9 rfl ?_
    refine v_iconst (pc' := 19) (v := 0) hc_X0_bestRoll dX0_bestRoll_18 rfl rfl ?_
    obtain ⟨rfl, rfl⟩ := ret_of e
    exact v_iret hc_X0_bestRoll rfl dX0_bestRoll_19 rfl rfl
  · refine k_V (pc' := 7) (ci := 0) (n := 1) hc_X0_bestRoll ho_X0_bestRoll rfl c1 (w_X1_bestRoll D l hl x0 x1 h e4) (wA_l q1694) q1695 (wA_l q1696) q75 q1697 hy_208 ⟨Nat.le_of_ble_eq_true rfl, Nat.le_of_ble_eq_true rfl⟩ rfl rfl (Nat.le_of_ble_eq_true rfl) dX0_bestRoll_4 rfl kM (kX ?_)
    rcases ite_cs e with ⟨c7, e⟩ | ⟨_, e⟩
    · refine v_catchH (ci := 22) (nm := "java/lang/IndexOutOfBoundsException") (pre := []) (x := (0, 9, 12, 21)) (suf := [(0, 9, 15, 55)]) ho_X0_bestRoll c7 rfl rfl (by decide) (by decide) hpN q1557 q1156 ?_
      refine v_astore_n (pc' := 13) (lv' := [(3, .ref zq6), (0, .ref x0), (1, .int x1), (2, .ref x2)]) hc_X0_bestRoll dX0_bestRoll_12 rfl rfl (Nat.le_of_ble_eq_true rfl) rfl ?_
      refine v_iconst (pc' := 14) (v := 1) hc_X0_bestRoll dX0_bestRoll_13 rfl rfl ?_
      obtain ⟨rfl, rfl⟩ := ret_of e
      exact v_iret hc_X0_bestRoll rfl dX0_bestRoll_14 rfl rfl
    rcases ite_cs e with ⟨c8, e⟩ | ⟨_, e⟩
    · refine v_catchH (ci := 24) (nm := "java/util/NoSuchElementException") (pre := [(0, 9, 12, 21)]) (x := (0, 9, 15, 55)) (suf := []) ho_X0_bestRoll c8 rfl rfl (by decide) (by decide) (hpC (Or.inr ⟨by decide, "java/lang/IndexOutOfBoundsException", q1557, by decide +kernel⟩) hpN) q1652 q442 ?_
      refine v_astore_n (pc' := 16) (lv' := [(3, .ref zq6), (0, .ref x0), (1, .int x1), (2, .ref x2)]) hc_X0_bestRoll dX0_bestRoll_15 rfl rfl (Nat.le_of_ble_eq_true rfl) rfl ?_
      refine v_iconst (pc' := 17) (v := 2) hc_X0_bestRoll dX0_bestRoll_16 rfl rfl ?_
      obtain ⟨rfl, rfl⟩ := ret_of e
      exact v_iret hc_X0_bestRoll rfl dX0_bestRoll_17 rfl rfl
    exact nomatch e
theorem w_X0_bestRoll (D : va_G) (l : Launch) (hl : l.stackTraces = false) (x0 : Nat) (x1 : Int32) (x2 : Nat) (h : AH) {r : Int32} {hF : AH} (e : f_X0_bestRoll x0 x1 x2 h = some (r, hF)) : MetV D l yX0_bestRoll (Cond.codeWith yX0_bestRoll cX0_bestRoll 4 (Option.some .int) [(0, 9, 12, 21), (0, 9, 15, 55)]) 10 246 [.ref x0, .int x1, .ref x2] h hF (oI r) :=
  met_ofHF (by decide +kernel) hl (Nat.le_of_ble_eq_true rfl) rfl (v_X0_bestRoll D l hl [.ref x0, .int x1, .ref x2] h x0 x1 x2 h e)
/-! BlockPapersLaw.finish(LBlockPapers;I[J)I  -/
abbrev G_X0_finish (D : va_G) (l : Launch) (as : List Value) (h0 hF : AH) (o : Out) : CT := (D, l, (yX0_finish.cls, yX0_finish, cX0_finish, 4, (Option.some .int), 15, 365, [(0, 9, 12, 21), (0, 9, 15, 15)]), as, h0, hF, o)
theorem hc_X0_finish {D : va_G} {l : Launch} {as : List Value} {h0 hF : AH} {o : Out} : gC (G_X0_finish D l as h0 hF o) = cX0_finish := rfl
theorem ho_X0_finish {D : va_G} {l : Launch} {as : List Value} {h0 hF : AH} {o : Out} : gO (G_X0_finish D l as h0 hF o) = "BlockPapersLaw" := rfl
def f_X0_finish (x0 : Nat) (x1 : Int32) (x2 : Nat) (h : AH) : Option (Int32 × AH) :=
  gd (isC h 0 x0) <|
  bdX (f_X1_finish x0 x1 h) (fun zq6 h3 =>
    if isX h3 22 zq6 = true then (
      some ((1 : Int32), h3)
    ) else (
    if isX h3 26 zq6 = true then (
      some ((2 : Int32), h3)
    ) else (
    none))
  ) fun r2 h3 =>
  bd (stL h3 x2 (0 : Int32) r2.toInt64) fun h5 =>
  some ((0 : Int32), h5)
theorem v_X0_finish (D : va_G) (l : Launch) (hl : l.stackTraces = false) (as : List Value) (h0 : AH) {r : Int32} {hF : AH} (x0 : Nat) (x1 : Int32) (x2 : Nat) (h : AH) (e : f_X0_finish x0 x1 x2 h = some (r, hF)) : V (G_X0_finish D l as h0 hF (oI r)) h 0 [(0, .ref x0), (1, .int x1), (2, .ref x2)] [] := by
  unfold f_X0_finish at e
  refine v_aload_n (pc' := 1) hc_X0_finish dX0_finish_0 rfl rfl 2 rfl ?_
  refine v_iconst (pc' := 2) (v := 0) hc_X0_finish dX0_finish_1 rfl rfl ?_
  refine v_aload_n (pc' := 3) hc_X0_finish dX0_finish_2 rfl rfl 0 rfl ?_
  refine v_iload_n (pc' := 4) hc_X0_finish dX0_finish_3 rfl rfl 1 rfl ?_
  obtain ⟨c1, e⟩ := gd_of e
  rcases bdX_of e with ⟨r2, h3, e4, e⟩ | ⟨zq6, h3, e4, e⟩
  · refine k_V (pc' := 7) (ci := 0) (n := 1) hc_X0_finish ho_X0_finish rfl c1 (w_X1_finish D l hl x0 x1 h e4) (wA_l q1702) q1703 (wA_l q1704) q75 q1705 hy_212 ⟨Nat.le_of_ble_eq_true rfl, Nat.le_of_ble_eq_true rfl⟩ rfl rfl (Nat.le_of_ble_eq_true rfl) dX0_finish_4 rfl (kS ?_) kN
    refine v_i2l (pc' := 8) hc_X0_finish dX0_finish_7 rfl ?_
    refine v_last (pc' := 9) hc_X0_finish dX0_finish_8 rfl e (fun h5 _ e => ?_)
    refine v_goto (pt := 18) hc_X0_finish dX0_finish_9 rfl ?_
    refine v_iconst (pc' := 19) (v := 0) hc_X0_finish dX0_finish_18 rfl rfl ?_
    obtain ⟨rfl, rfl⟩ := ret_of e
    exact v_iret hc_X0_finish rfl dX0_finish_19 rfl rfl
  · refine k_V (pc' := 7) (ci := 0) (n := 1) hc_X0_finish ho_X0_finish rfl c1 (w_X1_finish D l hl x0 x1 h e4) (wA_l q1702) q1703 (wA_l q1704) q75 q1705 hy_212 ⟨Nat.le_of_ble_eq_true rfl, Nat.le_of_ble_eq_true rfl⟩ rfl rfl (Nat.le_of_ble_eq_true rfl) dX0_finish_4 rfl kM (kX ?_)
    rcases ite_cs e with ⟨c7, e⟩ | ⟨_, e⟩
    · refine v_catchH (ci := 22) (nm := "java/lang/IndexOutOfBoundsException") (pre := []) (x := (0, 9, 12, 21)) (suf := [(0, 9, 15, 15)]) ho_X0_finish c7 rfl rfl (by decide) (by decide) hpN q1557 q1156 ?_
      refine v_astore_n (pc' := 13) (lv' := [(3, .ref zq6), (0, .ref x0), (1, .int x1), (2, .ref x2)]) hc_X0_finish dX0_finish_12 rfl rfl (Nat.le_of_ble_eq_true rfl) rfl ?_
      refine v_iconst (pc' := 14) (v := 1) hc_X0_finish dX0_finish_13 rfl rfl ?_
      obtain ⟨rfl, rfl⟩ := ret_of e
      exact v_iret hc_X0_finish rfl dX0_finish_14 rfl rfl
    rcases ite_cs e with ⟨c8, e⟩ | ⟨_, e⟩
    · refine v_catchH (ci := 26) (nm := "java/lang/UnsupportedOperationException") (pre := [(0, 9, 12, 21)]) (x := (0, 9, 15, 15)) (suf := []) ho_X0_finish c8 rfl rfl (by decide) (by decide) (hpC (Or.inr ⟨by decide, "java/lang/IndexOutOfBoundsException", q1557, by decide +kernel⟩) hpN) q924 q1541 ?_
      refine v_astore_n (pc' := 16) (lv' := [(3, .ref zq6), (0, .ref x0), (1, .int x1), (2, .ref x2)]) hc_X0_finish dX0_finish_15 rfl rfl (Nat.le_of_ble_eq_true rfl) rfl ?_
      refine v_iconst (pc' := 17) (v := 2) hc_X0_finish dX0_finish_16 rfl rfl ?_
      obtain ⟨rfl, rfl⟩ := ret_of e
      exact v_iret hc_X0_finish rfl dX0_finish_17 rfl rfl
    exact nomatch e
theorem w_X0_finish (D : va_G) (l : Launch) (hl : l.stackTraces = false) (x0 : Nat) (x1 : Int32) (x2 : Nat) (h : AH) {r : Int32} {hF : AH} (e : f_X0_finish x0 x1 x2 h = some (r, hF)) : MetV D l yX0_finish (Cond.codeWith yX0_finish cX0_finish 4 (Option.some .int) [(0, 9, 12, 21), (0, 9, 15, 15)]) 15 365 [.ref x0, .int x1, .ref x2] h hF (oI r) :=
  met_ofHF (by decide +kernel) hl (Nat.le_of_ble_eq_true rfl) rfl (v_X0_finish D l hl [.ref x0, .int x1, .ref x2] h x0 x1 x2 h e)
/-! BlockPapersLaw.dropsFrom(LBlockPapers;II[J)I  -/
abbrev G_X0_dropsFrom (D : va_G) (l : Launch) (as : List Value) (h0 hF : AH) (o : Out) : CT := (D, l, (yX0_dropsFrom.cls, yX0_dropsFrom, cX0_dropsFrom, 5, (Option.some .int), 10, 250, [(0, 10, 13, 21)]), as, h0, hF, o)
theorem hc_X0_dropsFrom {D : va_G} {l : Launch} {as : List Value} {h0 hF : AH} {o : Out} : gC (G_X0_dropsFrom D l as h0 hF o) = cX0_dropsFrom := rfl
theorem ho_X0_dropsFrom {D : va_G} {l : Launch} {as : List Value} {h0 hF : AH} {o : Out} : gO (G_X0_dropsFrom D l as h0 hF o) = "BlockPapersLaw" := rfl
def f_X0_dropsFrom (x0 : Nat) (x1 : Int32) (x2 : Int32) (x3 : Nat) (h : AH) : Option (Int32 × AH) :=
  gd (isC h 0 x0) <|
  bdX (f_X1_dropsFrom x0 x1 x2 h) (fun zq6 h3 =>
    if isX h3 22 zq6 = true then (
      some ((1 : Int32), h3)
    ) else (
    none)
  ) fun r2 h3 =>
  bd (stL h3 x3 (0 : Int32) r2.toInt64) fun h5 =>
  some ((0 : Int32), h5)
theorem v_X0_dropsFrom (D : va_G) (l : Launch) (hl : l.stackTraces = false) (as : List Value) (h0 : AH) {r : Int32} {hF : AH} (x0 : Nat) (x1 : Int32) (x2 : Int32) (x3 : Nat) (h : AH) (e : f_X0_dropsFrom x0 x1 x2 x3 h = some (r, hF)) : V (G_X0_dropsFrom D l as h0 hF (oI r)) h 0 [(0, .ref x0), (1, .int x1), (2, .int x2), (3, .ref x3)] [] := by
  unfold f_X0_dropsFrom at e
  refine v_aload_n (pc' := 1) hc_X0_dropsFrom dX0_dropsFrom_0 rfl rfl 3 rfl ?_
  refine v_iconst (pc' := 2) (v := 0) hc_X0_dropsFrom dX0_dropsFrom_1 rfl rfl ?_
  refine v_aload_n (pc' := 3) hc_X0_dropsFrom dX0_dropsFrom_2 rfl rfl 0 rfl ?_
  refine v_iload_n (pc' := 4) hc_X0_dropsFrom dX0_dropsFrom_3 rfl rfl 1 rfl ?_
  refine v_iload_n (pc' := 5) hc_X0_dropsFrom dX0_dropsFrom_4 rfl rfl 2 rfl ?_
  obtain ⟨c1, e⟩ := gd_of e
  rcases bdX_of e with ⟨r2, h3, e4, e⟩ | ⟨zq6, h3, e4, e⟩
  · refine k_V (pc' := 8) (ci := 0) (n := 2) hc_X0_dropsFrom ho_X0_dropsFrom rfl c1 (w_X1_dropsFrom D l hl x0 x1 x2 h e4) (wA_l q1710) q1711 (wA_l q1712) q75 q1713 hy_217 ⟨Nat.le_of_ble_eq_true rfl, Nat.le_of_ble_eq_true rfl⟩ rfl rfl (Nat.le_of_ble_eq_true rfl) dX0_dropsFrom_5 rfl (kS ?_) kN
    refine v_i2l (pc' := 9) hc_X0_dropsFrom dX0_dropsFrom_8 rfl ?_
    refine v_last (pc' := 10) hc_X0_dropsFrom dX0_dropsFrom_9 rfl e (fun h5 _ e => ?_)
    refine v_goto (pt := 17) hc_X0_dropsFrom dX0_dropsFrom_10 rfl ?_
    refine v_iconst (pc' := 18) (v := 0) hc_X0_dropsFrom dX0_dropsFrom_17 rfl rfl ?_
    obtain ⟨rfl, rfl⟩ := ret_of e
    exact v_iret hc_X0_dropsFrom rfl dX0_dropsFrom_18 rfl rfl
  · refine k_V (pc' := 8) (ci := 0) (n := 2) hc_X0_dropsFrom ho_X0_dropsFrom rfl c1 (w_X1_dropsFrom D l hl x0 x1 x2 h e4) (wA_l q1710) q1711 (wA_l q1712) q75 q1713 hy_217 ⟨Nat.le_of_ble_eq_true rfl, Nat.le_of_ble_eq_true rfl⟩ rfl rfl (Nat.le_of_ble_eq_true rfl) dX0_dropsFrom_5 rfl kM (kX ?_)
    rcases ite_cs e with ⟨c7, e⟩ | ⟨_, e⟩
    · refine v_catchH (ci := 22) (nm := "java/lang/IndexOutOfBoundsException") (pre := []) (x := (0, 10, 13, 21)) (suf := []) ho_X0_dropsFrom c7 rfl rfl (by decide) (by decide) hpN q1557 q1156 ?_
      refine v_astore (pc' := 15) (lv' := [(4, .ref zq6), (0, .ref x0), (1, .int x1), (2, .int x2), (3, .ref x3)]) hc_X0_dropsFrom dX0_dropsFrom_13 rfl (Nat.le_of_ble_eq_true rfl) rfl ?_
      refine v_iconst (pc' := 16) (v := 1) hc_X0_dropsFrom dX0_dropsFrom_15 rfl rfl ?_
      obtain ⟨rfl, rfl⟩ := ret_of e
      exact v_iret hc_X0_dropsFrom rfl dX0_dropsFrom_16 rfl rfl
    exact nomatch e
theorem w_X0_dropsFrom (D : va_G) (l : Launch) (hl : l.stackTraces = false) (x0 : Nat) (x1 : Int32) (x2 : Int32) (x3 : Nat) (h : AH) {r : Int32} {hF : AH} (e : f_X0_dropsFrom x0 x1 x2 x3 h = some (r, hF)) : MetV D l yX0_dropsFrom (Cond.codeWith yX0_dropsFrom cX0_dropsFrom 5 (Option.some .int) [(0, 10, 13, 21)]) 10 250 [.ref x0, .int x1, .int x2, .ref x3] h hF (oI r) :=
  met_ofHF (by decide +kernel) hl (Nat.le_of_ble_eq_true rfl) rfl (v_X0_dropsFrom D l hl [.ref x0, .int x1, .int x2, .ref x3] h x0 x1 x2 x3 h e)
/-! BlockPapersLaw.dropsAgain(LBlockPapers;II[J)I  -/
abbrev G_X0_dropsAgain (D : va_G) (l : Launch) (as : List Value) (h0 hF : AH) (o : Out) : CT := (D, l, (yX0_dropsAgain.cls, yX0_dropsAgain, cX0_dropsAgain, 5, (Option.some .int), 11, 269, [(0, 10, 13, 21)]), as, h0, hF, o)
theorem hc_X0_dropsAgain {D : va_G} {l : Launch} {as : List Value} {h0 hF : AH} {o : Out} : gC (G_X0_dropsAgain D l as h0 hF o) = cX0_dropsAgain := rfl
theorem ho_X0_dropsAgain {D : va_G} {l : Launch} {as : List Value} {h0 hF : AH} {o : Out} : gO (G_X0_dropsAgain D l as h0 hF o) = "BlockPapersLaw" := rfl
def f_X0_dropsAgain (x0 : Nat) (x1 : Int32) (x2 : Int32) (x3 : Nat) (h : AH) : Option (Int32 × AH) :=
  gd (isC h 0 x0) <|
  bdX (f_X1_dropsAgain x0 x1 x2 h) (fun zq6 h3 =>
    if isX h3 22 zq6 = true then (
      some ((1 : Int32), h3)
    ) else (
    none)
  ) fun r2 h3 =>
  bd (stL h3 x3 (0 : Int32) r2.toInt64) fun h5 =>
  some ((0 : Int32), h5)
theorem v_X0_dropsAgain (D : va_G) (l : Launch) (hl : l.stackTraces = false) (as : List Value) (h0 : AH) {r : Int32} {hF : AH} (x0 : Nat) (x1 : Int32) (x2 : Int32) (x3 : Nat) (h : AH) (e : f_X0_dropsAgain x0 x1 x2 x3 h = some (r, hF)) : V (G_X0_dropsAgain D l as h0 hF (oI r)) h 0 [(0, .ref x0), (1, .int x1), (2, .int x2), (3, .ref x3)] [] := by
  unfold f_X0_dropsAgain at e
  refine v_aload_n (pc' := 1) hc_X0_dropsAgain dX0_dropsAgain_0 rfl rfl 3 rfl ?_
  refine v_iconst (pc' := 2) (v := 0) hc_X0_dropsAgain dX0_dropsAgain_1 rfl rfl ?_
  refine v_aload_n (pc' := 3) hc_X0_dropsAgain dX0_dropsAgain_2 rfl rfl 0 rfl ?_
  refine v_iload_n (pc' := 4) hc_X0_dropsAgain dX0_dropsAgain_3 rfl rfl 1 rfl ?_
  refine v_iload_n (pc' := 5) hc_X0_dropsAgain dX0_dropsAgain_4 rfl rfl 2 rfl ?_
  obtain ⟨c1, e⟩ := gd_of e
  rcases bdX_of e with ⟨r2, h3, e4, e⟩ | ⟨zq6, h3, e4, e⟩
  · refine k_V (pc' := 8) (ci := 0) (n := 2) hc_X0_dropsAgain ho_X0_dropsAgain rfl c1 (w_X1_dropsAgain D l hl x0 x1 x2 h e4) (wA_l q1721) q1722 (wA_l q1723) q75 q1724 hy_220 ⟨Nat.le_of_ble_eq_true rfl, Nat.le_of_ble_eq_true rfl⟩ rfl rfl (Nat.le_of_ble_eq_true rfl) dX0_dropsAgain_5 rfl (kS ?_) kN
    refine v_i2l (pc' := 9) hc_X0_dropsAgain dX0_dropsAgain_8 rfl ?_
    refine v_last (pc' := 10) hc_X0_dropsAgain dX0_dropsAgain_9 rfl e (fun h5 _ e => ?_)
    refine v_goto (pt := 17) hc_X0_dropsAgain dX0_dropsAgain_10 rfl ?_
    refine v_iconst (pc' := 18) (v := 0) hc_X0_dropsAgain dX0_dropsAgain_17 rfl rfl ?_
    obtain ⟨rfl, rfl⟩ := ret_of e
    exact v_iret hc_X0_dropsAgain rfl dX0_dropsAgain_18 rfl rfl
  · refine k_V (pc' := 8) (ci := 0) (n := 2) hc_X0_dropsAgain ho_X0_dropsAgain rfl c1 (w_X1_dropsAgain D l hl x0 x1 x2 h e4) (wA_l q1721) q1722 (wA_l q1723) q75 q1724 hy_220 ⟨Nat.le_of_ble_eq_true rfl, Nat.le_of_ble_eq_true rfl⟩ rfl rfl (Nat.le_of_ble_eq_true rfl) dX0_dropsAgain_5 rfl kM (kX ?_)
    rcases ite_cs e with ⟨c7, e⟩ | ⟨_, e⟩
    · refine v_catchH (ci := 22) (nm := "java/lang/IndexOutOfBoundsException") (pre := []) (x := (0, 10, 13, 21)) (suf := []) ho_X0_dropsAgain c7 rfl rfl (by decide) (by decide) hpN q1557 q1156 ?_
      refine v_astore (pc' := 15) (lv' := [(4, .ref zq6), (0, .ref x0), (1, .int x1), (2, .int x2), (3, .ref x3)]) hc_X0_dropsAgain dX0_dropsAgain_13 rfl (Nat.le_of_ble_eq_true rfl) rfl ?_
      refine v_iconst (pc' := 16) (v := 1) hc_X0_dropsAgain dX0_dropsAgain_15 rfl rfl ?_
      obtain ⟨rfl, rfl⟩ := ret_of e
      exact v_iret hc_X0_dropsAgain rfl dX0_dropsAgain_16 rfl rfl
    exact nomatch e
theorem w_X0_dropsAgain (D : va_G) (l : Launch) (hl : l.stackTraces = false) (x0 : Nat) (x1 : Int32) (x2 : Int32) (x3 : Nat) (h : AH) {r : Int32} {hF : AH} (e : f_X0_dropsAgain x0 x1 x2 x3 h = some (r, hF)) : MetV D l yX0_dropsAgain (Cond.codeWith yX0_dropsAgain cX0_dropsAgain 5 (Option.some .int) [(0, 10, 13, 21)]) 11 269 [.ref x0, .int x1, .int x2, .ref x3] h hF (oI r) :=
  met_ofHF (by decide +kernel) hl (Nat.le_of_ble_eq_true rfl) rfl (v_X0_dropsAgain D l hl [.ref x0, .int x1, .int x2, .ref x3] h x0 x1 x2 x3 h e)
/-! BlockPapersLaw.line(LBlockPapers;I[J)I  -/
abbrev G_X0_line (D : va_G) (l : Launch) (as : List Value) (h0 hF : AH) (o : Out) : CT := (D, l, (yX0_line.cls, yX0_line, cX0_line, 4, (Option.some .int), 11, 271, [(0, 9, 12, 21)]), as, h0, hF, o)
theorem hc_X0_line {D : va_G} {l : Launch} {as : List Value} {h0 hF : AH} {o : Out} : gC (G_X0_line D l as h0 hF o) = cX0_line := rfl
theorem ho_X0_line {D : va_G} {l : Launch} {as : List Value} {h0 hF : AH} {o : Out} : gO (G_X0_line D l as h0 hF o) = "BlockPapersLaw" := rfl
def f_X0_line (x0 : Nat) (x1 : Int32) (x2 : Nat) (h : AH) : Option (Int32 × AH) :=
  gd (isC h 0 x0) <|
  bdX (f_X1_line x0 x1 h) (fun zq6 h3 =>
    if isX h3 22 zq6 = true then (
      some ((1 : Int32), h3)
    ) else (
    none)
  ) fun r2 h3 =>
  bd (stL h3 x2 (0 : Int32) r2.toInt64) fun h5 =>
  some ((0 : Int32), h5)
theorem v_X0_line (D : va_G) (l : Launch) (hl : l.stackTraces = false) (as : List Value) (h0 : AH) {r : Int32} {hF : AH} (x0 : Nat) (x1 : Int32) (x2 : Nat) (h : AH) (e : f_X0_line x0 x1 x2 h = some (r, hF)) : V (G_X0_line D l as h0 hF (oI r)) h 0 [(0, .ref x0), (1, .int x1), (2, .ref x2)] [] := by
  unfold f_X0_line at e
  refine v_aload_n (pc' := 1) hc_X0_line dX0_line_0 rfl rfl 2 rfl ?_
  refine v_iconst (pc' := 2) (v := 0) hc_X0_line dX0_line_1 rfl rfl ?_
  refine v_aload_n (pc' := 3) hc_X0_line dX0_line_2 rfl rfl 0 rfl ?_
  refine v_iload_n (pc' := 4) hc_X0_line dX0_line_3 rfl rfl 1 rfl ?_
  obtain ⟨c1, e⟩ := gd_of e
  rcases bdX_of e with ⟨r2, h3, e4, e⟩ | ⟨zq6, h3, e4, e⟩
  · refine k_V (pc' := 7) (ci := 0) (n := 1) hc_X0_line ho_X0_line rfl c1 (w_X1_line D l hl x0 x1 h e4) (wA_l q1730) q1731 (wA_l q1732) q75 q1733 hy_252 ⟨Nat.le_of_ble_eq_true rfl, Nat.le_of_ble_eq_true rfl⟩ rfl rfl (Nat.le_of_ble_eq_true rfl) dX0_line_4 rfl (kS ?_) kN
    refine v_i2l (pc' := 8) hc_X0_line dX0_line_7 rfl ?_
    refine v_last (pc' := 9) hc_X0_line dX0_line_8 rfl e (fun h5 _ e => ?_)
    refine v_goto (pt := 15) hc_X0_line dX0_line_9 rfl ?_
    refine v_iconst (pc' := 16) (v := 0) hc_X0_line dX0_line_15 rfl rfl ?_
    obtain ⟨rfl, rfl⟩ := ret_of e
    exact v_iret hc_X0_line rfl dX0_line_16 rfl rfl
  · refine k_V (pc' := 7) (ci := 0) (n := 1) hc_X0_line ho_X0_line rfl c1 (w_X1_line D l hl x0 x1 h e4) (wA_l q1730) q1731 (wA_l q1732) q75 q1733 hy_252 ⟨Nat.le_of_ble_eq_true rfl, Nat.le_of_ble_eq_true rfl⟩ rfl rfl (Nat.le_of_ble_eq_true rfl) dX0_line_4 rfl kM (kX ?_)
    rcases ite_cs e with ⟨c7, e⟩ | ⟨_, e⟩
    · refine v_catchH (ci := 22) (nm := "java/lang/IndexOutOfBoundsException") (pre := []) (x := (0, 9, 12, 21)) (suf := []) ho_X0_line c7 rfl rfl (by decide) (by decide) hpN q1557 q1156 ?_
      refine v_astore_n (pc' := 13) (lv' := [(3, .ref zq6), (0, .ref x0), (1, .int x1), (2, .ref x2)]) hc_X0_line dX0_line_12 rfl rfl (Nat.le_of_ble_eq_true rfl) rfl ?_
      refine v_iconst (pc' := 14) (v := 1) hc_X0_line dX0_line_13 rfl rfl ?_
      obtain ⟨rfl, rfl⟩ := ret_of e
      exact v_iret hc_X0_line rfl dX0_line_14 rfl rfl
    exact nomatch e
theorem w_X0_line (D : va_G) (l : Launch) (hl : l.stackTraces = false) (x0 : Nat) (x1 : Int32) (x2 : Nat) (h : AH) {r : Int32} {hF : AH} (e : f_X0_line x0 x1 x2 h = some (r, hF)) : MetV D l yX0_line (Cond.codeWith yX0_line cX0_line 4 (Option.some .int) [(0, 9, 12, 21)]) 11 271 [.ref x0, .int x1, .ref x2] h hF (oI r) :=
  met_ofHF (by decide +kernel) hl (Nat.le_of_ble_eq_true rfl) rfl (v_X0_line D l hl [.ref x0, .int x1, .ref x2] h x0 x1 x2 h e)
/-! BlockPapersLaw.character(LBlockPapers;I[J)I  -/
abbrev G_X0_character (D : va_G) (l : Launch) (as : List Value) (h0 hF : AH) (o : Out) : CT := (D, l, (yX0_character.cls, yX0_character, cX0_character, 4, (Option.some .int), 8, 175, [(0, 9, 12, 21)]), as, h0, hF, o)
theorem hc_X0_character {D : va_G} {l : Launch} {as : List Value} {h0 hF : AH} {o : Out} : gC (G_X0_character D l as h0 hF o) = cX0_character := rfl
theorem ho_X0_character {D : va_G} {l : Launch} {as : List Value} {h0 hF : AH} {o : Out} : gO (G_X0_character D l as h0 hF o) = "BlockPapersLaw" := rfl
def f_X0_character (x0 : Nat) (x1 : Int32) (x2 : Nat) (h : AH) : Option (Int32 × AH) :=
  gd (isC h 0 x0) <|
  bdX (f_X1_character x0 x1 h) (fun zq6 h3 =>
    if isX h3 22 zq6 = true then (
      some ((1 : Int32), h3)
    ) else (
    none)
  ) fun r2 h3 =>
  bd (stL h3 x2 (0 : Int32) r2.toInt64) fun h5 =>
  some ((0 : Int32), h5)
theorem v_X0_character (D : va_G) (l : Launch) (hl : l.stackTraces = false) (as : List Value) (h0 : AH) {r : Int32} {hF : AH} (x0 : Nat) (x1 : Int32) (x2 : Nat) (h : AH) (e : f_X0_character x0 x1 x2 h = some (r, hF)) : V (G_X0_character D l as h0 hF (oI r)) h 0 [(0, .ref x0), (1, .int x1), (2, .ref x2)] [] := by
  unfold f_X0_character at e
  refine v_aload_n (pc' := 1) hc_X0_character dX0_character_0 rfl rfl 2 rfl ?_
  refine v_iconst (pc' := 2) (v := 0) hc_X0_character dX0_character_1 rfl rfl ?_
  refine v_aload_n (pc' := 3) hc_X0_character dX0_character_2 rfl rfl 0 rfl ?_
  refine v_iload_n (pc' := 4) hc_X0_character dX0_character_3 rfl rfl 1 rfl ?_
  obtain ⟨c1, e⟩ := gd_of e
  rcases bdX_of e with ⟨r2, h3, e4, e⟩ | ⟨zq6, h3, e4, e⟩
  · refine k_V (pc' := 7) (ci := 0) (n := 1) hc_X0_character ho_X0_character rfl c1 (w_X1_character D l hl x0 x1 h e4) (wA_l q1881) q1882 (wA_l q1883) q75 q1884 hy_267 ⟨Nat.le_of_ble_eq_true rfl, Nat.le_of_ble_eq_true rfl⟩ rfl rfl (Nat.le_of_ble_eq_true rfl) dX0_character_4 rfl (kS ?_) kN
    refine v_i2l (pc' := 8) hc_X0_character dX0_character_7 rfl ?_
    refine v_last (pc' := 9) hc_X0_character dX0_character_8 rfl e (fun h5 _ e => ?_)
    refine v_goto (pt := 15) hc_X0_character dX0_character_9 rfl ?_
    refine v_iconst (pc' := 16) (v := 0) hc_X0_character dX0_character_15 rfl rfl ?_
    obtain ⟨rfl, rfl⟩ := ret_of e
    exact v_iret hc_X0_character rfl dX0_character_16 rfl rfl
  · refine k_V (pc' := 7) (ci := 0) (n := 1) hc_X0_character ho_X0_character rfl c1 (w_X1_character D l hl x0 x1 h e4) (wA_l q1881) q1882 (wA_l q1883) q75 q1884 hy_267 ⟨Nat.le_of_ble_eq_true rfl, Nat.le_of_ble_eq_true rfl⟩ rfl rfl (Nat.le_of_ble_eq_true rfl) dX0_character_4 rfl kM (kX ?_)
    rcases ite_cs e with ⟨c7, e⟩ | ⟨_, e⟩
    · refine v_catchH (ci := 22) (nm := "java/lang/IndexOutOfBoundsException") (pre := []) (x := (0, 9, 12, 21)) (suf := []) ho_X0_character c7 rfl rfl (by decide) (by decide) hpN q1557 q1156 ?_
      refine v_astore_n (pc' := 13) (lv' := [(3, .ref zq6), (0, .ref x0), (1, .int x1), (2, .ref x2)]) hc_X0_character dX0_character_12 rfl rfl (Nat.le_of_ble_eq_true rfl) rfl ?_
      refine v_iconst (pc' := 14) (v := 1) hc_X0_character dX0_character_13 rfl rfl ?_
      obtain ⟨rfl, rfl⟩ := ret_of e
      exact v_iret hc_X0_character rfl dX0_character_14 rfl rfl
    exact nomatch e
theorem w_X0_character (D : va_G) (l : Launch) (hl : l.stackTraces = false) (x0 : Nat) (x1 : Int32) (x2 : Nat) (h : AH) {r : Int32} {hF : AH} (e : f_X0_character x0 x1 x2 h = some (r, hF)) : MetV D l yX0_character (Cond.codeWith yX0_character cX0_character 4 (Option.some .int) [(0, 9, 12, 21)]) 8 175 [.ref x0, .int x1, .ref x2] h hF (oI r) :=
  met_ofHF (by decide +kernel) hl (Nat.le_of_ble_eq_true rfl) rfl (v_X0_character D l hl [.ref x0, .int x1, .ref x2] h x0 x1 x2 h e)
/-! BlockPapersLaw.number(LBlockPapers;I[J)I  -/
abbrev G_X0_number (D : va_G) (l : Launch) (as : List Value) (h0 hF : AH) (o : Out) : CT := (D, l, (yX0_number.cls, yX0_number, cX0_number, 4, (Option.some .int), 11, 217, [(0, 9, 12, 13)]), as, h0, hF, o)
theorem hc_X0_number {D : va_G} {l : Launch} {as : List Value} {h0 hF : AH} {o : Out} : gC (G_X0_number D l as h0 hF o) = cX0_number := rfl
theorem ho_X0_number {D : va_G} {l : Launch} {as : List Value} {h0 hF : AH} {o : Out} : gO (G_X0_number D l as h0 hF o) = "BlockPapersLaw" := rfl
def f_X0_number (x0 : Nat) (x1 : Int32) (x2 : Nat) (h : AH) : Option (Int32 × AH) :=
  gd (isC h 0 x0) <|
  bdX (f_X1_number x0 x1 h) (fun zq6 h3 =>
    if isX h3 21 zq6 = true then (
      some ((1 : Int32), h3)
    ) else (
    none)
  ) fun r2 h3 =>
  bd (stL h3 x2 (0 : Int32) r2.toInt64) fun h5 =>
  some ((0 : Int32), h5)
theorem v_X0_number (D : va_G) (l : Launch) (hl : l.stackTraces = false) (as : List Value) (h0 : AH) {r : Int32} {hF : AH} (x0 : Nat) (x1 : Int32) (x2 : Nat) (h : AH) (e : f_X0_number x0 x1 x2 h = some (r, hF)) : V (G_X0_number D l as h0 hF (oI r)) h 0 [(0, .ref x0), (1, .int x1), (2, .ref x2)] [] := by
  unfold f_X0_number at e
  refine v_aload_n (pc' := 1) hc_X0_number dX0_number_0 rfl rfl 2 rfl ?_
  refine v_iconst (pc' := 2) (v := 0) hc_X0_number dX0_number_1 rfl rfl ?_
  refine v_aload_n (pc' := 3) hc_X0_number dX0_number_2 rfl rfl 0 rfl ?_
  refine v_iload_n (pc' := 4) hc_X0_number dX0_number_3 rfl rfl 1 rfl ?_
  obtain ⟨c1, e⟩ := gd_of e
  rcases bdX_of e with ⟨r2, h3, e4, e⟩ | ⟨zq6, h3, e4, e⟩
  · refine k_V (pc' := 7) (ci := 0) (n := 1) hc_X0_number ho_X0_number rfl c1 (w_X1_number D l hl x0 x1 h e4) (wA_l q1891) q263 (wA_l q264) q75 q265 hy_275 ⟨Nat.le_of_ble_eq_true rfl, Nat.le_of_ble_eq_true rfl⟩ rfl rfl (Nat.le_of_ble_eq_true rfl) dX0_number_4 rfl (kS ?_) kN
    refine v_i2l (pc' := 8) hc_X0_number dX0_number_7 rfl ?_
    refine v_last (pc' := 9) hc_X0_number dX0_number_8 rfl e (fun h5 _ e => ?_)
    refine v_goto (pt := 15) hc_X0_number dX0_number_9 rfl ?_
    refine v_iconst (pc' := 16) (v := 0) hc_X0_number dX0_number_15 rfl rfl ?_
    obtain ⟨rfl, rfl⟩ := ret_of e
    exact v_iret hc_X0_number rfl dX0_number_16 rfl rfl
  · refine k_V (pc' := 7) (ci := 0) (n := 1) hc_X0_number ho_X0_number rfl c1 (w_X1_number D l hl x0 x1 h e4) (wA_l q1891) q263 (wA_l q264) q75 q265 hy_275 ⟨Nat.le_of_ble_eq_true rfl, Nat.le_of_ble_eq_true rfl⟩ rfl rfl (Nat.le_of_ble_eq_true rfl) dX0_number_4 rfl kM (kX ?_)
    rcases ite_cs e with ⟨c7, e⟩ | ⟨_, e⟩
    · refine v_catchH (ci := 21) (nm := "java/lang/IllegalArgumentException") (pre := []) (x := (0, 9, 12, 13)) (suf := []) ho_X0_number c7 rfl rfl (by decide) (by decide) hpN q923 q274 ?_
      refine v_astore_n (pc' := 13) (lv' := [(3, .ref zq6), (0, .ref x0), (1, .int x1), (2, .ref x2)]) hc_X0_number dX0_number_12 rfl rfl (Nat.le_of_ble_eq_true rfl) rfl ?_
      refine v_iconst (pc' := 14) (v := 1) hc_X0_number dX0_number_13 rfl rfl ?_
      obtain ⟨rfl, rfl⟩ := ret_of e
      exact v_iret hc_X0_number rfl dX0_number_14 rfl rfl
    exact nomatch e
theorem w_X0_number (D : va_G) (l : Launch) (hl : l.stackTraces = false) (x0 : Nat) (x1 : Int32) (x2 : Nat) (h : AH) {r : Int32} {hF : AH} (e : f_X0_number x0 x1 x2 h = some (r, hF)) : MetV D l yX0_number (Cond.codeWith yX0_number cX0_number 4 (Option.some .int) [(0, 9, 12, 13)]) 11 217 [.ref x0, .int x1, .ref x2] h hF (oI r) :=
  met_ofHF (by decide +kernel) hl (Nat.le_of_ble_eq_true rfl) rfl (v_X0_number D l hl [.ref x0, .int x1, .ref x2] h x0 x1 x2 h e)
/-! BlockPapersLaw.meanShade(LBlockPapers;[D)I  -/
abbrev G_X0_meanShade (D : va_G) (l : Launch) (as : List Value) (h0 hF : AH) (o : Out) : CT := (D, l, (yX0_meanShade.cls, yX0_meanShade, cX0_meanShade, 3, (Option.some .int), 7, 113, [(0, 7, 10, 97)]), as, h0, hF, o)
theorem hc_X0_meanShade {D : va_G} {l : Launch} {as : List Value} {h0 hF : AH} {o : Out} : gC (G_X0_meanShade D l as h0 hF o) = cX0_meanShade := rfl
theorem ho_X0_meanShade {D : va_G} {l : Launch} {as : List Value} {h0 hF : AH} {o : Out} : gO (G_X0_meanShade D l as h0 hF o) = "BlockPapersLaw" := rfl
def f_X0_meanShade (x0 : Nat) (x1 : Nat) (h : AH) : Option (Int32 × AH) :=
  gd (isC h 0 x0) <|
  bdX (f_X1_meanShade x0 h) (fun zq6 h3 =>
    if isX h3 25 zq6 = true then (
      some ((1 : Int32), h3)
    ) else (
    none)
  ) fun r2 h3 =>
  bd (stD h3 x1 (0 : Int32) r2) fun h5 =>
  some ((0 : Int32), h5)
theorem v_X0_meanShade (D : va_G) (l : Launch) (hl : l.stackTraces = false) (as : List Value) (h0 : AH) {r : Int32} {hF : AH} (x0 : Nat) (x1 : Nat) (h : AH) (e : f_X0_meanShade x0 x1 h = some (r, hF)) : V (G_X0_meanShade D l as h0 hF (oI r)) h 0 [(0, .ref x0), (1, .ref x1)] [] := by
  unfold f_X0_meanShade at e
  refine v_aload_n (pc' := 1) hc_X0_meanShade dX0_meanShade_0 rfl rfl 1 rfl ?_
  refine v_iconst (pc' := 2) (v := 0) hc_X0_meanShade dX0_meanShade_1 rfl rfl ?_
  refine v_aload_n (pc' := 3) hc_X0_meanShade dX0_meanShade_2 rfl rfl 0 rfl ?_
  obtain ⟨c1, e⟩ := gd_of e
  rcases bdX_of e with ⟨r2, h3, e4, e⟩ | ⟨zq6, h3, e4, e⟩
  · refine k_V (pc' := 6) (ci := 0) (n := 0) hc_X0_meanShade ho_X0_meanShade rfl c1 (w_X1_meanShade D l hl x0 h e4) (wA_l q1909) q1910 (wA_l q1911) q75 q1912 hy_285 ⟨Nat.le_of_ble_eq_true rfl, Nat.le_of_ble_eq_true rfl⟩ rfl rfl (Nat.le_of_ble_eq_true rfl) dX0_meanShade_3 rfl (kS ?_) kN
    refine v_dast (pc' := 7) hc_X0_meanShade dX0_meanShade_6 rfl e (fun h5 _ e => ?_)
    refine v_goto (pt := 13) hc_X0_meanShade dX0_meanShade_7 rfl ?_
    refine v_iconst (pc' := 14) (v := 0) hc_X0_meanShade dX0_meanShade_13 rfl rfl ?_
    obtain ⟨rfl, rfl⟩ := ret_of e
    exact v_iret hc_X0_meanShade rfl dX0_meanShade_14 rfl rfl
  · refine k_V (pc' := 6) (ci := 0) (n := 0) hc_X0_meanShade ho_X0_meanShade rfl c1 (w_X1_meanShade D l hl x0 h e4) (wA_l q1909) q1910 (wA_l q1911) q75 q1912 hy_285 ⟨Nat.le_of_ble_eq_true rfl, Nat.le_of_ble_eq_true rfl⟩ rfl rfl (Nat.le_of_ble_eq_true rfl) dX0_meanShade_3 rfl kM (kX ?_)
    rcases ite_cs e with ⟨c7, e⟩ | ⟨_, e⟩
    · refine v_catchH (ci := 25) (nm := "java/lang/ArithmeticException") (pre := []) (x := (0, 7, 10, 97)) (suf := []) ho_X0_meanShade c7 rfl rfl (by decide) (by decide) hpN q1895 q1907 ?_
      refine v_astore_n (pc' := 11) (lv' := [(2, .ref zq6), (0, .ref x0), (1, .ref x1)]) hc_X0_meanShade dX0_meanShade_10 rfl rfl (Nat.le_of_ble_eq_true rfl) rfl ?_
      refine v_iconst (pc' := 12) (v := 1) hc_X0_meanShade dX0_meanShade_11 rfl rfl ?_
      obtain ⟨rfl, rfl⟩ := ret_of e
      exact v_iret hc_X0_meanShade rfl dX0_meanShade_12 rfl rfl
    exact nomatch e
theorem w_X0_meanShade (D : va_G) (l : Launch) (hl : l.stackTraces = false) (x0 : Nat) (x1 : Nat) (h : AH) {r : Int32} {hF : AH} (e : f_X0_meanShade x0 x1 h = some (r, hF)) : MetV D l yX0_meanShade (Cond.codeWith yX0_meanShade cX0_meanShade 3 (Option.some .int) [(0, 7, 10, 97)]) 7 113 [.ref x0, .ref x1] h hF (oI r) :=
  met_ofHF (by decide +kernel) hl (Nat.le_of_ble_eq_true rfl) rfl (v_X0_meanShade D l hl [.ref x0, .ref x1] h x0 x1 h e)
/-! BlockPapersLaw.wasted(LBlockPapers;[D)I  -/
abbrev G_X0_wasted (D : va_G) (l : Launch) (as : List Value) (h0 hF : AH) (o : Out) : CT := (D, l, (yX0_wasted.cls, yX0_wasted, cX0_wasted, 3, (Option.some .int), 12, 238, [(0, 8, 11, 97)]), as, h0, hF, o)
theorem hc_X0_wasted {D : va_G} {l : Launch} {as : List Value} {h0 hF : AH} {o : Out} : gC (G_X0_wasted D l as h0 hF o) = cX0_wasted := rfl
theorem ho_X0_wasted {D : va_G} {l : Launch} {as : List Value} {h0 hF : AH} {o : Out} : gO (G_X0_wasted D l as h0 hF o) = "BlockPapersLaw" := rfl
def f_X0_wasted (x0 : Nat) (x1 : Nat) (h : AH) : Option (Int32 × AH) :=
  gd (isC h 0 x0) <|
  bdX (f_X1_wasted x0 h) (fun zq7 h3 =>
    if isX h3 25 zq7 = true then (
      some ((1 : Int32), h3)
    ) else (
    none)
  ) fun r2 h3 =>
  gd (decide ((FP.f2d r2) &&& 0x7fffffffffffffff ≤ 0x7ff0000000000000)) <|
  bd (stD h3 x1 (0 : Int32) (FP.f2d r2)) fun h6 =>
  some ((0 : Int32), h6)
theorem v_X0_wasted (D : va_G) (l : Launch) (hl : l.stackTraces = false) (as : List Value) (h0 : AH) {r : Int32} {hF : AH} (x0 : Nat) (x1 : Nat) (h : AH) (e : f_X0_wasted x0 x1 h = some (r, hF)) : V (G_X0_wasted D l as h0 hF (oI r)) h 0 [(0, .ref x0), (1, .ref x1)] [] := by
  unfold f_X0_wasted at e
  refine v_aload_n (pc' := 1) hc_X0_wasted dX0_wasted_0 rfl rfl 1 rfl ?_
  refine v_iconst (pc' := 2) (v := 0) hc_X0_wasted dX0_wasted_1 rfl rfl ?_
  refine v_aload_n (pc' := 3) hc_X0_wasted dX0_wasted_2 rfl rfl 0 rfl ?_
  obtain ⟨c1, e⟩ := gd_of e
  rcases bdX_of e with ⟨r2, h3, e4, e⟩ | ⟨zq7, h3, e4, e⟩
  · refine k_V (pc' := 6) (ci := 0) (n := 0) hc_X0_wasted ho_X0_wasted rfl c1 (w_X1_wasted D l hl x0 h e4) (wA_l q1923) q1924 (wA_l q1925) q75 q1926 hy_288 ⟨Nat.le_of_ble_eq_true rfl, Nat.le_of_ble_eq_true rfl⟩ rfl rfl (Nat.le_of_ble_eq_true rfl) dX0_wasted_3 rfl (kS ?_) kN
    obtain ⟨c5, e⟩ := gd_of e
    refine v_f2d (pc' := 7) hc_X0_wasted dX0_wasted_6 rfl (vf64_of c5) ?_
    refine v_dast (pc' := 8) hc_X0_wasted dX0_wasted_7 rfl e (fun h6 _ e => ?_)
    refine v_goto (pt := 14) hc_X0_wasted dX0_wasted_8 rfl ?_
    refine v_iconst (pc' := 15) (v := 0) hc_X0_wasted dX0_wasted_14 rfl rfl ?_
    obtain ⟨rfl, rfl⟩ := ret_of e
    exact v_iret hc_X0_wasted rfl dX0_wasted_15 rfl rfl
  · refine k_V (pc' := 6) (ci := 0) (n := 0) hc_X0_wasted ho_X0_wasted rfl c1 (w_X1_wasted D l hl x0 h e4) (wA_l q1923) q1924 (wA_l q1925) q75 q1926 hy_288 ⟨Nat.le_of_ble_eq_true rfl, Nat.le_of_ble_eq_true rfl⟩ rfl rfl (Nat.le_of_ble_eq_true rfl) dX0_wasted_3 rfl kM (kX ?_)
    rcases ite_cs e with ⟨c8, e⟩ | ⟨_, e⟩
    · refine v_catchH (ci := 25) (nm := "java/lang/ArithmeticException") (pre := []) (x := (0, 8, 11, 97)) (suf := []) ho_X0_wasted c8 rfl rfl (by decide) (by decide) hpN q1895 q1907 ?_
      refine v_astore_n (pc' := 12) (lv' := [(2, .ref zq7), (0, .ref x0), (1, .ref x1)]) hc_X0_wasted dX0_wasted_11 rfl rfl (Nat.le_of_ble_eq_true rfl) rfl ?_
      refine v_iconst (pc' := 13) (v := 1) hc_X0_wasted dX0_wasted_12 rfl rfl ?_
      obtain ⟨rfl, rfl⟩ := ret_of e
      exact v_iret hc_X0_wasted rfl dX0_wasted_13 rfl rfl
    exact nomatch e
theorem w_X0_wasted (D : va_G) (l : Launch) (hl : l.stackTraces = false) (x0 : Nat) (x1 : Nat) (h : AH) {r : Int32} {hF : AH} (e : f_X0_wasted x0 x1 h = some (r, hF)) : MetV D l yX0_wasted (Cond.codeWith yX0_wasted cX0_wasted 3 (Option.some .int) [(0, 8, 11, 97)]) 12 238 [.ref x0, .ref x1] h hF (oI r) :=
  met_ofHF (by decide +kernel) hl (Nat.le_of_ble_eq_true rfl) rfl (v_X0_wasted D l hl [.ref x0, .ref x1] h x0 x1 h e)
/-! BlockPapersLaw.feed(LBlockPapers;C[J)I  -/
abbrev G_X0_feed (D : va_G) (l : Launch) (as : List Value) (h0 hF : AH) (o : Out) : CT := (D, l, (yX0_feed.cls, yX0_feed, cX0_feed, 4, (Option.some .int), 8, 202, [(0, 9, 12, 107)]), as, h0, hF, o)
theorem hc_X0_feed {D : va_G} {l : Launch} {as : List Value} {h0 hF : AH} {o : Out} : gC (G_X0_feed D l as h0 hF o) = cX0_feed := rfl
theorem ho_X0_feed {D : va_G} {l : Launch} {as : List Value} {h0 hF : AH} {o : Out} : gO (G_X0_feed D l as h0 hF o) = "BlockPapersLaw" := rfl
def f_X0_feed (x0 : Nat) (x1 : Int32) (x2 : Nat) (h : AH) : Option (Int32 × AH) :=
  gd (isC h 0 x0) <|
  bdX (f_X1_feed x0 x1 h) (fun zq6 h3 =>
    if isX h3 23 zq6 = true then (
      some ((1 : Int32), h3)
    ) else (
    none)
  ) fun r2 h3 =>
  bd (stL h3 x2 (0 : Int32) r2.toInt64) fun h5 =>
  some ((0 : Int32), h5)
theorem v_X0_feed (D : va_G) (l : Launch) (hl : l.stackTraces = false) (as : List Value) (h0 : AH) {r : Int32} {hF : AH} (x0 : Nat) (x1 : Int32) (x2 : Nat) (h : AH) (e : f_X0_feed x0 x1 x2 h = some (r, hF)) : V (G_X0_feed D l as h0 hF (oI r)) h 0 [(0, .ref x0), (1, .int x1), (2, .ref x2)] [] := by
  unfold f_X0_feed at e
  refine v_aload_n (pc' := 1) hc_X0_feed dX0_feed_0 rfl rfl 2 rfl ?_
  refine v_iconst (pc' := 2) (v := 0) hc_X0_feed dX0_feed_1 rfl rfl ?_
  refine v_aload_n (pc' := 3) hc_X0_feed dX0_feed_2 rfl rfl 0 rfl ?_
  refine v_iload_n (pc' := 4) hc_X0_feed dX0_feed_3 rfl rfl 1 rfl ?_
  obtain ⟨c1, e⟩ := gd_of e
  rcases bdX_of e with ⟨r2, h3, e4, e⟩ | ⟨zq6, h3, e4, e⟩
  · refine k_V (pc' := 7) (ci := 0) (n := 1) hc_X0_feed ho_X0_feed rfl c1 (w_X1_feed D l hl x0 x1 h e4) (wA_l q1931) q1932 (wA_l q1933) q75 q1934 hy_300 ⟨Nat.le_of_ble_eq_true rfl, Nat.le_of_ble_eq_true rfl⟩ rfl rfl (Nat.le_of_ble_eq_true rfl) dX0_feed_4 rfl (kS ?_) kN
    refine v_i2l (pc' := 8) hc_X0_feed dX0_feed_7 rfl ?_
    refine v_last (pc' := 9) hc_X0_feed dX0_feed_8 rfl e (fun h5 _ e => ?_)
    refine v_goto (pt := 15) hc_X0_feed dX0_feed_9 rfl ?_
    refine v_iconst (pc' := 16) (v := 0) hc_X0_feed dX0_feed_15 rfl rfl ?_
    obtain ⟨rfl, rfl⟩ := ret_of e
    exact v_iret hc_X0_feed rfl dX0_feed_16 rfl rfl
  · refine k_V (pc' := 7) (ci := 0) (n := 1) hc_X0_feed ho_X0_feed rfl c1 (w_X1_feed D l hl x0 x1 h e4) (wA_l q1931) q1932 (wA_l q1933) q75 q1934 hy_300 ⟨Nat.le_of_ble_eq_true rfl, Nat.le_of_ble_eq_true rfl⟩ rfl rfl (Nat.le_of_ble_eq_true rfl) dX0_feed_4 rfl kM (kX ?_)
    rcases ite_cs e with ⟨c7, e⟩ | ⟨_, e⟩
    · refine v_catchH (ci := 23) (nm := "java/lang/IllegalStateException") (pre := []) (x := (0, 9, 12, 107)) (suf := []) ho_X0_feed c7 rfl rfl (by decide) (by decide) hpN q1930 q1523 ?_
      refine v_astore_n (pc' := 13) (lv' := [(3, .ref zq6), (0, .ref x0), (1, .int x1), (2, .ref x2)]) hc_X0_feed dX0_feed_12 rfl rfl (Nat.le_of_ble_eq_true rfl) rfl ?_
      refine v_iconst (pc' := 14) (v := 1) hc_X0_feed dX0_feed_13 rfl rfl ?_
      obtain ⟨rfl, rfl⟩ := ret_of e
      exact v_iret hc_X0_feed rfl dX0_feed_14 rfl rfl
    exact nomatch e
theorem w_X0_feed (D : va_G) (l : Launch) (hl : l.stackTraces = false) (x0 : Nat) (x1 : Int32) (x2 : Nat) (h : AH) {r : Int32} {hF : AH} (e : f_X0_feed x0 x1 x2 h = some (r, hF)) : MetV D l yX0_feed (Cond.codeWith yX0_feed cX0_feed 4 (Option.some .int) [(0, 9, 12, 107)]) 8 202 [.ref x0, .int x1, .ref x2] h hF (oI r) :=
  met_ofHF (by decide +kernel) hl (Nat.le_of_ble_eq_true rfl) rfl (v_X0_feed D l hl [.ref x0, .int x1, .ref x2] h x0 x1 x2 h e)
/-! BlockPapersLaw.read(LBlockPapers;[J)I  -/
abbrev G_X0_read (D : va_G) (l : Launch) (as : List Value) (h0 hF : AH) (o : Out) : CT := (D, l, (yX0_read.cls, yX0_read, cX0_read, 3, (Option.some .int), 15, 365, [(0, 8, 11, 13), (0, 8, 14, 15)]), as, h0, hF, o)
theorem hc_X0_read {D : va_G} {l : Launch} {as : List Value} {h0 hF : AH} {o : Out} : gC (G_X0_read D l as h0 hF o) = cX0_read := rfl
theorem ho_X0_read {D : va_G} {l : Launch} {as : List Value} {h0 hF : AH} {o : Out} : gO (G_X0_read D l as h0 hF o) = "BlockPapersLaw" := rfl
def f_X0_read (x0 : Nat) (x1 : Nat) (h : AH) : Option (Int32 × AH) :=
  gd (isC h 0 x0) <|
  bdX (f_X1_read x0 h) (fun zq6 h3 =>
    if isX h3 21 zq6 = true then (
      some ((1 : Int32), h3)
    ) else (
    if isX h3 26 zq6 = true then (
      some ((2 : Int32), h3)
    ) else (
    none))
  ) fun r2 h3 =>
  bd (stL h3 x1 (0 : Int32) r2.toInt64) fun h5 =>
  some ((0 : Int32), h5)
theorem v_X0_read (D : va_G) (l : Launch) (hl : l.stackTraces = false) (as : List Value) (h0 : AH) {r : Int32} {hF : AH} (x0 : Nat) (x1 : Nat) (h : AH) (e : f_X0_read x0 x1 h = some (r, hF)) : V (G_X0_read D l as h0 hF (oI r)) h 0 [(0, .ref x0), (1, .ref x1)] [] := by
  unfold f_X0_read at e
  refine v_aload_n (pc' := 1) hc_X0_read dX0_read_0 rfl rfl 1 rfl ?_
  refine v_iconst (pc' := 2) (v := 0) hc_X0_read dX0_read_1 rfl rfl ?_
  refine v_aload_n (pc' := 3) hc_X0_read dX0_read_2 rfl rfl 0 rfl ?_
  obtain ⟨c1, e⟩ := gd_of e
  rcases bdX_of e with ⟨r2, h3, e4, e⟩ | ⟨zq6, h3, e4, e⟩
  · refine k_V (pc' := 6) (ci := 0) (n := 0) hc_X0_read ho_X0_read rfl c1 (w_X1_read D l hl x0 h e4) (wA_l q1953) q1954 (wA_l q1955) q75 q1956 hy_327 ⟨Nat.le_of_ble_eq_true rfl, Nat.le_of_ble_eq_true rfl⟩ rfl rfl (Nat.le_of_ble_eq_true rfl) dX0_read_3 rfl (kS ?_) kN
    refine v_i2l (pc' := 7) hc_X0_read dX0_read_6 rfl ?_
    refine v_last (pc' := 8) hc_X0_read dX0_read_7 rfl e (fun h5 _ e => ?_)
    refine v_goto (pt := 17) hc_X0_read dX0_read_8 rfl ?_
    refine v_iconst (pc' := 18) (v := 0) hc_X0_read dX0_read_17 rfl rfl ?_
    obtain ⟨rfl, rfl⟩ := ret_of e
    exact v_iret hc_X0_read rfl dX0_read_18 rfl rfl
  · refine k_V (pc' := 6) (ci := 0) (n := 0) hc_X0_read ho_X0_read rfl c1 (w_X1_read D l hl x0 h e4) (wA_l q1953) q1954 (wA_l q1955) q75 q1956 hy_327 ⟨Nat.le_of_ble_eq_true rfl, Nat.le_of_ble_eq_true rfl⟩ rfl rfl (Nat.le_of_ble_eq_true rfl) dX0_read_3 rfl kM (kX ?_)
    rcases ite_cs e with ⟨c7, e⟩ | ⟨_, e⟩
    · refine v_catchH (ci := 21) (nm := "java/lang/IllegalArgumentException") (pre := []) (x := (0, 8, 11, 13)) (suf := [(0, 8, 14, 15)]) ho_X0_read c7 rfl rfl (by decide) (by decide) hpN q923 q274 ?_
      refine v_astore_n (pc' := 12) (lv' := [(2, .ref zq6), (0, .ref x0), (1, .ref x1)]) hc_X0_read dX0_read_11 rfl rfl (Nat.le_of_ble_eq_true rfl) rfl ?_
      refine v_iconst (pc' := 13) (v := 1) hc_X0_read dX0_read_12 rfl rfl ?_
      obtain ⟨rfl, rfl⟩ := ret_of e
      exact v_iret hc_X0_read rfl dX0_read_13 rfl rfl
    rcases ite_cs e with ⟨c8, e⟩ | ⟨_, e⟩
    · refine v_catchH (ci := 26) (nm := "java/lang/UnsupportedOperationException") (pre := [(0, 8, 11, 13)]) (x := (0, 8, 14, 15)) (suf := []) ho_X0_read c8 rfl rfl (by decide) (by decide) (hpC (Or.inr ⟨by decide, "java/lang/IllegalArgumentException", q923, by decide +kernel⟩) hpN) q924 q1541 ?_
      refine v_astore_n (pc' := 15) (lv' := [(2, .ref zq6), (0, .ref x0), (1, .ref x1)]) hc_X0_read dX0_read_14 rfl rfl (Nat.le_of_ble_eq_true rfl) rfl ?_
      refine v_iconst (pc' := 16) (v := 2) hc_X0_read dX0_read_15 rfl rfl ?_
      obtain ⟨rfl, rfl⟩ := ret_of e
      exact v_iret hc_X0_read rfl dX0_read_16 rfl rfl
    exact nomatch e
theorem w_X0_read (D : va_G) (l : Launch) (hl : l.stackTraces = false) (x0 : Nat) (x1 : Nat) (h : AH) {r : Int32} {hF : AH} (e : f_X0_read x0 x1 h = some (r, hF)) : MetV D l yX0_read (Cond.codeWith yX0_read cX0_read 3 (Option.some .int) [(0, 8, 11, 13), (0, 8, 14, 15)]) 15 365 [.ref x0, .ref x1] h hF (oI r) :=
  met_ofHF (by decide +kernel) hl (Nat.le_of_ble_eq_true rfl) rfl (v_X0_read D l hl [.ref x0, .ref x1] h x0 x1 h e)
/-! BlockPapersLaw.faultPosition(LBlockPapers;[J)I  -/
abbrev G_X0_faultPosition (D : va_G) (l : Launch) (as : List Value) (h0 hF : AH) (o : Out) : CT := (D, l, (yX0_faultPosition.cls, yX0_faultPosition, cX0_faultPosition, 3, (Option.some .int), 8, 129, [(0, 8, 11, 55)]), as, h0, hF, o)
theorem hc_X0_faultPosition {D : va_G} {l : Launch} {as : List Value} {h0 hF : AH} {o : Out} : gC (G_X0_faultPosition D l as h0 hF o) = cX0_faultPosition := rfl
theorem ho_X0_faultPosition {D : va_G} {l : Launch} {as : List Value} {h0 hF : AH} {o : Out} : gO (G_X0_faultPosition D l as h0 hF o) = "BlockPapersLaw" := rfl
def f_X0_faultPosition (x0 : Nat) (x1 : Nat) (h : AH) : Option (Int32 × AH) :=
  gd (isC h 0 x0) <|
  bdX (f_X1_faultPosition x0 h) (fun zq6 h3 =>
    if isX h3 24 zq6 = true then (
      some ((1 : Int32), h3)
    ) else (
    none)
  ) fun r2 h3 =>
  bd (stL h3 x1 (0 : Int32) r2.toInt64) fun h5 =>
  some ((0 : Int32), h5)
theorem v_X0_faultPosition (D : va_G) (l : Launch) (hl : l.stackTraces = false) (as : List Value) (h0 : AH) {r : Int32} {hF : AH} (x0 : Nat) (x1 : Nat) (h : AH) (e : f_X0_faultPosition x0 x1 h = some (r, hF)) : V (G_X0_faultPosition D l as h0 hF (oI r)) h 0 [(0, .ref x0), (1, .ref x1)] [] := by
  unfold f_X0_faultPosition at e
  refine v_aload_n (pc' := 1) hc_X0_faultPosition dX0_faultPosition_0 rfl rfl 1 rfl ?_
  refine v_iconst (pc' := 2) (v := 0) hc_X0_faultPosition dX0_faultPosition_1 rfl rfl ?_
  refine v_aload_n (pc' := 3) hc_X0_faultPosition dX0_faultPosition_2 rfl rfl 0 rfl ?_
  obtain ⟨c1, e⟩ := gd_of e
  rcases bdX_of e with ⟨r2, h3, e4, e⟩ | ⟨zq6, h3, e4, e⟩
  · refine k_V (pc' := 6) (ci := 0) (n := 0) hc_X0_faultPosition ho_X0_faultPosition rfl c1 (w_X1_faultPosition D l hl x0 h e4) (wA_l q2173) q2174 (wA_l q2175) q75 q2176 hy_336 ⟨Nat.le_of_ble_eq_true rfl, Nat.le_of_ble_eq_true rfl⟩ rfl rfl (Nat.le_of_ble_eq_true rfl) dX0_faultPosition_3 rfl (kS ?_) kN
    refine v_i2l (pc' := 7) hc_X0_faultPosition dX0_faultPosition_6 rfl ?_
    refine v_last (pc' := 8) hc_X0_faultPosition dX0_faultPosition_7 rfl e (fun h5 _ e => ?_)
    refine v_goto (pt := 14) hc_X0_faultPosition dX0_faultPosition_8 rfl ?_
    refine v_iconst (pc' := 15) (v := 0) hc_X0_faultPosition dX0_faultPosition_14 rfl rfl ?_
    obtain ⟨rfl, rfl⟩ := ret_of e
    exact v_iret hc_X0_faultPosition rfl dX0_faultPosition_15 rfl rfl
  · refine k_V (pc' := 6) (ci := 0) (n := 0) hc_X0_faultPosition ho_X0_faultPosition rfl c1 (w_X1_faultPosition D l hl x0 h e4) (wA_l q2173) q2174 (wA_l q2175) q75 q2176 hy_336 ⟨Nat.le_of_ble_eq_true rfl, Nat.le_of_ble_eq_true rfl⟩ rfl rfl (Nat.le_of_ble_eq_true rfl) dX0_faultPosition_3 rfl kM (kX ?_)
    rcases ite_cs e with ⟨c7, e⟩ | ⟨_, e⟩
    · refine v_catchH (ci := 24) (nm := "java/util/NoSuchElementException") (pre := []) (x := (0, 8, 11, 55)) (suf := []) ho_X0_faultPosition c7 rfl rfl (by decide) (by decide) hpN q1652 q442 ?_
      refine v_astore_n (pc' := 12) (lv' := [(2, .ref zq6), (0, .ref x0), (1, .ref x1)]) hc_X0_faultPosition dX0_faultPosition_11 rfl rfl (Nat.le_of_ble_eq_true rfl) rfl ?_
      refine v_iconst (pc' := 13) (v := 1) hc_X0_faultPosition dX0_faultPosition_12 rfl rfl ?_
      obtain ⟨rfl, rfl⟩ := ret_of e
      exact v_iret hc_X0_faultPosition rfl dX0_faultPosition_13 rfl rfl
    exact nomatch e
theorem w_X0_faultPosition (D : va_G) (l : Launch) (hl : l.stackTraces = false) (x0 : Nat) (x1 : Nat) (h : AH) {r : Int32} {hF : AH} (e : f_X0_faultPosition x0 x1 h = some (r, hF)) : MetV D l yX0_faultPosition (Cond.codeWith yX0_faultPosition cX0_faultPosition 3 (Option.some .int) [(0, 8, 11, 55)]) 8 129 [.ref x0, .ref x1] h hF (oI r) :=
  met_ofHF (by decide +kernel) hl (Nat.le_of_ble_eq_true rfl) rfl (v_X0_faultPosition D l hl [.ref x0, .ref x1] h x0 x1 h e)
/-! BlockPapersLaw.refusal(LBlockPapers;IZ[J)I  -/
abbrev G_X0_refusal (D : va_G) (l : Launch) (as : List Value) (h0 hF : AH) (o : Out) : CT := (D, l, (yX0_refusal.cls, yX0_refusal, cX0_refusal, 5, (Option.some .int), 8, 160, [(0, 10, 13, 55)]), as, h0, hF, o)
theorem hc_X0_refusal {D : va_G} {l : Launch} {as : List Value} {h0 hF : AH} {o : Out} : gC (G_X0_refusal D l as h0 hF o) = cX0_refusal := rfl
theorem ho_X0_refusal {D : va_G} {l : Launch} {as : List Value} {h0 hF : AH} {o : Out} : gO (G_X0_refusal D l as h0 hF o) = "BlockPapersLaw" := rfl
def f_X0_refusal (x0 : Nat) (x1 : Int32) (x2 : Int32) (x3 : Nat) (h : AH) : Option (Int32 × AH) :=
  gd (isC h 0 x0) <|
  bdX (f_X1_refusal x0 x1 x2 h) (fun zq6 h3 =>
    if isX h3 24 zq6 = true then (
      some ((1 : Int32), h3)
    ) else (
    none)
  ) fun r2 h3 =>
  bd (stL h3 x3 (0 : Int32) r2.toInt64) fun h5 =>
  some ((0 : Int32), h5)
theorem v_X0_refusal (D : va_G) (l : Launch) (hl : l.stackTraces = false) (as : List Value) (h0 : AH) {r : Int32} {hF : AH} (x0 : Nat) (x1 : Int32) (x2 : Int32) (x3 : Nat) (h : AH) (e : f_X0_refusal x0 x1 x2 x3 h = some (r, hF)) : V (G_X0_refusal D l as h0 hF (oI r)) h 0 [(0, .ref x0), (1, .int x1), (2, .int x2), (3, .ref x3)] [] := by
  unfold f_X0_refusal at e
  refine v_aload_n (pc' := 1) hc_X0_refusal dX0_refusal_0 rfl rfl 3 rfl ?_
  refine v_iconst (pc' := 2) (v := 0) hc_X0_refusal dX0_refusal_1 rfl rfl ?_
  refine v_aload_n (pc' := 3) hc_X0_refusal dX0_refusal_2 rfl rfl 0 rfl ?_
  refine v_iload_n (pc' := 4) hc_X0_refusal dX0_refusal_3 rfl rfl 1 rfl ?_
  refine v_iload_n (pc' := 5) hc_X0_refusal dX0_refusal_4 rfl rfl 2 rfl ?_
  obtain ⟨c1, e⟩ := gd_of e
  rcases bdX_of e with ⟨r2, h3, e4, e⟩ | ⟨zq6, h3, e4, e⟩
  · refine k_V (pc' := 8) (ci := 0) (n := 2) hc_X0_refusal ho_X0_refusal rfl c1 (w_X1_refusal D l hl x0 x1 x2 h e4) (wA_l q2180) q2181 (wA_l q2182) q75 q2183 hy_341 ⟨Nat.le_of_ble_eq_true rfl, Nat.le_of_ble_eq_true rfl⟩ rfl rfl (Nat.le_of_ble_eq_true rfl) dX0_refusal_5 rfl (kS ?_) kN
    refine v_i2l (pc' := 9) hc_X0_refusal dX0_refusal_8 rfl ?_
    refine v_last (pc' := 10) hc_X0_refusal dX0_refusal_9 rfl e (fun h5 _ e => ?_)
    refine v_goto (pt := 17) hc_X0_refusal dX0_refusal_10 rfl ?_
    refine v_iconst (pc' := 18) (v := 0) hc_X0_refusal dX0_refusal_17 rfl rfl ?_
    obtain ⟨rfl, rfl⟩ := ret_of e
    exact v_iret hc_X0_refusal rfl dX0_refusal_18 rfl rfl
  · refine k_V (pc' := 8) (ci := 0) (n := 2) hc_X0_refusal ho_X0_refusal rfl c1 (w_X1_refusal D l hl x0 x1 x2 h e4) (wA_l q2180) q2181 (wA_l q2182) q75 q2183 hy_341 ⟨Nat.le_of_ble_eq_true rfl, Nat.le_of_ble_eq_true rfl⟩ rfl rfl (Nat.le_of_ble_eq_true rfl) dX0_refusal_5 rfl kM (kX ?_)
    rcases ite_cs e with ⟨c7, e⟩ | ⟨_, e⟩
    · refine v_catchH (ci := 24) (nm := "java/util/NoSuchElementException") (pre := []) (x := (0, 10, 13, 55)) (suf := []) ho_X0_refusal c7 rfl rfl (by decide) (by decide) hpN q1652 q442 ?_
      refine v_astore (pc' := 15) (lv' := [(4, .ref zq6), (0, .ref x0), (1, .int x1), (2, .int x2), (3, .ref x3)]) hc_X0_refusal dX0_refusal_13 rfl (Nat.le_of_ble_eq_true rfl) rfl ?_
      refine v_iconst (pc' := 16) (v := 1) hc_X0_refusal dX0_refusal_15 rfl rfl ?_
      obtain ⟨rfl, rfl⟩ := ret_of e
      exact v_iret hc_X0_refusal rfl dX0_refusal_16 rfl rfl
    exact nomatch e
theorem w_X0_refusal (D : va_G) (l : Launch) (hl : l.stackTraces = false) (x0 : Nat) (x1 : Int32) (x2 : Int32) (x3 : Nat) (h : AH) {r : Int32} {hF : AH} (e : f_X0_refusal x0 x1 x2 x3 h = some (r, hF)) : MetV D l yX0_refusal (Cond.codeWith yX0_refusal cX0_refusal 5 (Option.some .int) [(0, 10, 13, 55)]) 8 160 [.ref x0, .int x1, .int x2, .ref x3] h hF (oI r) :=
  met_ofHF (by decide +kernel) hl (Nat.le_of_ble_eq_true rfl) rfl (v_X0_refusal D l hl [.ref x0, .int x1, .int x2, .ref x3] h x0 x1 x2 x3 h e)
/-! BlockPapersLaw.undo(LBlockPapers;[J)I  -/
abbrev G_X0_undo (D : va_G) (l : Launch) (as : List Value) (h0 hF : AH) (o : Out) : CT := (D, l, (yX0_undo.cls, yX0_undo, cX0_undo, 3, (Option.some .int), 8, 153, [(0, 8, 11, 107)]), as, h0, hF, o)
theorem hc_X0_undo {D : va_G} {l : Launch} {as : List Value} {h0 hF : AH} {o : Out} : gC (G_X0_undo D l as h0 hF o) = cX0_undo := rfl
theorem ho_X0_undo {D : va_G} {l : Launch} {as : List Value} {h0 hF : AH} {o : Out} : gO (G_X0_undo D l as h0 hF o) = "BlockPapersLaw" := rfl
def f_X0_undo (x0 : Nat) (x1 : Nat) (h : AH) : Option (Int32 × AH) :=
  gd (isC h 0 x0) <|
  bdX (f_X1_undo x0 h) (fun zq6 h3 =>
    if isX h3 23 zq6 = true then (
      some ((1 : Int32), h3)
    ) else (
    none)
  ) fun r2 h3 =>
  bd (stL h3 x1 (0 : Int32) r2.toInt64) fun h5 =>
  some ((0 : Int32), h5)
theorem v_X0_undo (D : va_G) (l : Launch) (hl : l.stackTraces = false) (as : List Value) (h0 : AH) {r : Int32} {hF : AH} (x0 : Nat) (x1 : Nat) (h : AH) (e : f_X0_undo x0 x1 h = some (r, hF)) : V (G_X0_undo D l as h0 hF (oI r)) h 0 [(0, .ref x0), (1, .ref x1)] [] := by
  unfold f_X0_undo at e
  refine v_aload_n (pc' := 1) hc_X0_undo dX0_undo_0 rfl rfl 1 rfl ?_
  refine v_iconst (pc' := 2) (v := 0) hc_X0_undo dX0_undo_1 rfl rfl ?_
  refine v_aload_n (pc' := 3) hc_X0_undo dX0_undo_2 rfl rfl 0 rfl ?_
  obtain ⟨c1, e⟩ := gd_of e
  rcases bdX_of e with ⟨r2, h3, e4, e⟩ | ⟨zq6, h3, e4, e⟩
  · refine k_V (pc' := 6) (ci := 0) (n := 0) hc_X0_undo ho_X0_undo rfl c1 (w_X1_undo D l hl x0 h e4) (wA_l q2199) q2200 (wA_l q2201) q75 q2202 hy_349 ⟨Nat.le_of_ble_eq_true rfl, Nat.le_of_ble_eq_true rfl⟩ rfl rfl (Nat.le_of_ble_eq_true rfl) dX0_undo_3 rfl (kS ?_) kN
    refine v_i2l (pc' := 7) hc_X0_undo dX0_undo_6 rfl ?_
    refine v_last (pc' := 8) hc_X0_undo dX0_undo_7 rfl e (fun h5 _ e => ?_)
    refine v_goto (pt := 14) hc_X0_undo dX0_undo_8 rfl ?_
    refine v_iconst (pc' := 15) (v := 0) hc_X0_undo dX0_undo_14 rfl rfl ?_
    obtain ⟨rfl, rfl⟩ := ret_of e
    exact v_iret hc_X0_undo rfl dX0_undo_15 rfl rfl
  · refine k_V (pc' := 6) (ci := 0) (n := 0) hc_X0_undo ho_X0_undo rfl c1 (w_X1_undo D l hl x0 h e4) (wA_l q2199) q2200 (wA_l q2201) q75 q2202 hy_349 ⟨Nat.le_of_ble_eq_true rfl, Nat.le_of_ble_eq_true rfl⟩ rfl rfl (Nat.le_of_ble_eq_true rfl) dX0_undo_3 rfl kM (kX ?_)
    rcases ite_cs e with ⟨c7, e⟩ | ⟨_, e⟩
    · refine v_catchH (ci := 23) (nm := "java/lang/IllegalStateException") (pre := []) (x := (0, 8, 11, 107)) (suf := []) ho_X0_undo c7 rfl rfl (by decide) (by decide) hpN q1930 q1523 ?_
      refine v_astore_n (pc' := 12) (lv' := [(2, .ref zq6), (0, .ref x0), (1, .ref x1)]) hc_X0_undo dX0_undo_11 rfl rfl (Nat.le_of_ble_eq_true rfl) rfl ?_
      refine v_iconst (pc' := 13) (v := 1) hc_X0_undo dX0_undo_12 rfl rfl ?_
      obtain ⟨rfl, rfl⟩ := ret_of e
      exact v_iret hc_X0_undo rfl dX0_undo_13 rfl rfl
    exact nomatch e
theorem w_X0_undo (D : va_G) (l : Launch) (hl : l.stackTraces = false) (x0 : Nat) (x1 : Nat) (h : AH) {r : Int32} {hF : AH} (e : f_X0_undo x0 x1 h = some (r, hF)) : MetV D l yX0_undo (Cond.codeWith yX0_undo cX0_undo 3 (Option.some .int) [(0, 8, 11, 107)]) 8 153 [.ref x0, .ref x1] h hF (oI r) :=
  met_ofHF (by decide +kernel) hl (Nat.le_of_ble_eq_true rfl) rfl (v_X0_undo D l hl [.ref x0, .ref x1] h x0 x1 h e)
/-! BlockPapersLaw.restoreSnapshot(LBlockPapers;[J)I  -/
abbrev G_X0_restoreSnapshot (D : va_G) (l : Launch) (as : List Value) (h0 hF : AH) (o : Out) : CT := (D, l, (yX0_restoreSnapshot.cls, yX0_restoreSnapshot, cX0_restoreSnapshot, 3, (Option.some .int), 10, 242, [(0, 8, 11, 107)]), as, h0, hF, o)
theorem hc_X0_restoreSnapshot {D : va_G} {l : Launch} {as : List Value} {h0 hF : AH} {o : Out} : gC (G_X0_restoreSnapshot D l as h0 hF o) = cX0_restoreSnapshot := rfl
theorem ho_X0_restoreSnapshot {D : va_G} {l : Launch} {as : List Value} {h0 hF : AH} {o : Out} : gO (G_X0_restoreSnapshot D l as h0 hF o) = "BlockPapersLaw" := rfl
def f_X0_restoreSnapshot (x0 : Nat) (x1 : Nat) (h : AH) : Option (Int32 × AH) :=
  gd (isC h 0 x0) <|
  bdX (f_X1_restoreSnapshot x0 h) (fun zq6 h3 =>
    if isX h3 23 zq6 = true then (
      some ((1 : Int32), h3)
    ) else (
    none)
  ) fun r2 h3 =>
  bd (stL h3 x1 (0 : Int32) r2.toInt64) fun h5 =>
  some ((0 : Int32), h5)
theorem v_X0_restoreSnapshot (D : va_G) (l : Launch) (hl : l.stackTraces = false) (as : List Value) (h0 : AH) {r : Int32} {hF : AH} (x0 : Nat) (x1 : Nat) (h : AH) (e : f_X0_restoreSnapshot x0 x1 h = some (r, hF)) : V (G_X0_restoreSnapshot D l as h0 hF (oI r)) h 0 [(0, .ref x0), (1, .ref x1)] [] := by
  unfold f_X0_restoreSnapshot at e
  refine v_aload_n (pc' := 1) hc_X0_restoreSnapshot dX0_restoreSnapshot_0 rfl rfl 1 rfl ?_
  refine v_iconst (pc' := 2) (v := 0) hc_X0_restoreSnapshot dX0_restoreSnapshot_1 rfl rfl ?_
  refine v_aload_n (pc' := 3) hc_X0_restoreSnapshot dX0_restoreSnapshot_2 rfl rfl 0 rfl ?_
  obtain ⟨c1, e⟩ := gd_of e
  rcases bdX_of e with ⟨r2, h3, e4, e⟩ | ⟨zq6, h3, e4, e⟩
  · refine k_V (pc' := 6) (ci := 0) (n := 0) hc_X0_restoreSnapshot ho_X0_restoreSnapshot rfl c1 (w_X1_restoreSnapshot D l hl x0 h e4) (wA_l q2225) q2226 (wA_l q2227) q75 q2228 hy_356 ⟨Nat.le_of_ble_eq_true rfl, Nat.le_of_ble_eq_true rfl⟩ rfl rfl (Nat.le_of_ble_eq_true rfl) dX0_restoreSnapshot_3 rfl (kS ?_) kN
    refine v_i2l (pc' := 7) hc_X0_restoreSnapshot dX0_restoreSnapshot_6 rfl ?_
    refine v_last (pc' := 8) hc_X0_restoreSnapshot dX0_restoreSnapshot_7 rfl e (fun h5 _ e => ?_)
    refine v_goto (pt := 14) hc_X0_restoreSnapshot dX0_restoreSnapshot_8 rfl ?_
    refine v_iconst (pc' := 15) (v := 0) hc_X0_restoreSnapshot dX0_restoreSnapshot_14 rfl rfl ?_
    obtain ⟨rfl, rfl⟩ := ret_of e
    exact v_iret hc_X0_restoreSnapshot rfl dX0_restoreSnapshot_15 rfl rfl
  · refine k_V (pc' := 6) (ci := 0) (n := 0) hc_X0_restoreSnapshot ho_X0_restoreSnapshot rfl c1 (w_X1_restoreSnapshot D l hl x0 h e4) (wA_l q2225) q2226 (wA_l q2227) q75 q2228 hy_356 ⟨Nat.le_of_ble_eq_true rfl, Nat.le_of_ble_eq_true rfl⟩ rfl rfl (Nat.le_of_ble_eq_true rfl) dX0_restoreSnapshot_3 rfl kM (kX ?_)
    rcases ite_cs e with ⟨c7, e⟩ | ⟨_, e⟩
    · refine v_catchH (ci := 23) (nm := "java/lang/IllegalStateException") (pre := []) (x := (0, 8, 11, 107)) (suf := []) ho_X0_restoreSnapshot c7 rfl rfl (by decide) (by decide) hpN q1930 q1523 ?_
      refine v_astore_n (pc' := 12) (lv' := [(2, .ref zq6), (0, .ref x0), (1, .ref x1)]) hc_X0_restoreSnapshot dX0_restoreSnapshot_11 rfl rfl (Nat.le_of_ble_eq_true rfl) rfl ?_
      refine v_iconst (pc' := 13) (v := 1) hc_X0_restoreSnapshot dX0_restoreSnapshot_12 rfl rfl ?_
      obtain ⟨rfl, rfl⟩ := ret_of e
      exact v_iret hc_X0_restoreSnapshot rfl dX0_restoreSnapshot_13 rfl rfl
    exact nomatch e
theorem w_X0_restoreSnapshot (D : va_G) (l : Launch) (hl : l.stackTraces = false) (x0 : Nat) (x1 : Nat) (h : AH) {r : Int32} {hF : AH} (e : f_X0_restoreSnapshot x0 x1 h = some (r, hF)) : MetV D l yX0_restoreSnapshot (Cond.codeWith yX0_restoreSnapshot cX0_restoreSnapshot 3 (Option.some .int) [(0, 8, 11, 107)]) 10 242 [.ref x0, .ref x1] h hF (oI r) :=
  met_ofHF (by decide +kernel) hl (Nat.le_of_ble_eq_true rfl) rfl (v_X0_restoreSnapshot D l hl [.ref x0, .ref x1] h x0 x1 h e)
/-! BlockPapersLaw.law([I)Z  -/
abbrev G_law (D : va_G) (l : Launch) (as : List Value) (h0 hF : AH) (o : Out) : CT := (D, l, (x.cls, x, cL_law, 9, ret, 16, 392, []), as, h0, hF, o)
theorem hc_law {D : va_G} {l : Launch} {as : List Value} {h0 hF : AH} {o : Out} : gC (G_law D l as h0 hF o) = cL_law := rfl
theorem ho_law {D : va_G} {l : Launch} {as : List Value} {h0 hF : AH} {o : Out} : gO (G_law D l as h0 hF o) = "BlockPapersLaw" := rfl
theorem hp_law {D : va_G} {l : Launch} {as : List Value} {h0 hF : AH} {o : Out} (pc : Nat) : ∀ z ∈ tableOf (gHd (G_law D l as h0 hF o)), covers z pc = false := hpN
def f_law_j240 (rec28 : Nat → Nat → Nat → Nat → Nat → Int32 → AH → Option (Int32 × AH)) (x0 : Nat) (x1 : Nat) (x2 : Nat) (x3 : Nat) (x4 : Nat) (x5 : Int32) (x6 : Int32) (s0 : Nat) (s1 : Int32) (s2 : Int32) (h : AH) : Option (Int32 × AH) :=
  gd (isC h 2 s0) <|
  bd2 (f_X3_block s0 s1 s2 h) fun r2 h3 =>
  gd (isC h3 2 x2) <|
  bd2 (f_X3_thrown x2 h3) fun r6 h7 =>
  if r6 = x6 then (
    if x6 = 0 then (
      bd (ldL h7 x3 (0 : Int32)) fun v9 =>
      if (lg_cmp v9 r2.toInt64) = 0 then (
        rec28 x0 x1 x2 x3 x4 (x5 + 4) h7
      ) else (
        some ((0 : Int32), h7)
      )
    ) else (
      rec28 x0 x1 x2 x3 x4 (x5 + 4) h7
    )
  ) else (
    some ((0 : Int32), h7)
  )
theorem w_law_j240 (D : va_G) (l : Launch) (hl : l.stackTraces = false) (as : List Value) (h0 : AH) {r : Int32} {hF : AH} (rec28 : Nat → Nat → Nat → Nat → Nat → Int32 → AH → Option (Int32 × AH)) (R28 : ∀ x0 x1 x2 x3 x4 x5 k, rec28 x0 x1 x2 x3 x4 x5 k = some (r, hF) → V (G_law D l as h0 hF (oI r)) k 28 [(0, .ref x0), (1, .ref x1), (2, .ref x2), (3, .ref x3), (4, .ref x4), (5, .int x5)] []) (x0 : Nat) (x1 : Nat) (x2 : Nat) (x3 : Nat) (x4 : Nat) (x5 : Int32) (x6 : Int32) (s0 : Nat) (s1 : Int32) (s2 : Int32) (h : AH) (e : f_law_j240 rec28 x0 x1 x2 x3 x4 x5 x6 s0 s1 s2 h = some (r, hF)) : V (G_law D l as h0 hF (oI r)) h 240 [(0, .ref x0), (1, .ref x1), (2, .ref x2), (3, .ref x3), (4, .ref x4), (5, .int x5), (6, .int x6)] [.int s2, .int s1, .ref s0] := by
  unfold f_law_j240 at e
  obtain ⟨c1, e⟩ := gd_of e
  obtain ⟨r2, h3, e4, e⟩ := bd2_of e
  refine k_V (pc' := 243) (ci := 2) (n := 2) hc_law ho_law rfl c1 (w_X3_block D l hl s0 s1 s2 h e4) (wA_l q2320) q2321 (wA_l q2322) q85 q2323 hy_125 ⟨Nat.le_of_ble_eq_true rfl, Nat.le_of_ble_eq_true rfl⟩ rfl rfl (Nat.le_of_ble_eq_true rfl) dL_law_240 rfl (kS ?_) kN
  refine v_istore (pc' := 245) (lv' := [(7, .int r2), (0, .ref x0), (1, .ref x1), (2, .ref x2), (3, .ref x3), (4, .ref x4), (5, .int x5), (6, .int x6)]) hc_law dL_law_243 rfl (Nat.le_of_ble_eq_true rfl) rfl ?_
  refine v_aload_n (pc' := 246) hc_law dL_law_245 rfl rfl 3 rfl ?_
  obtain ⟨c5, e⟩ := gd_of e
  obtain ⟨r6, h7, e8, e⟩ := bd2_of e
  refine k_V (pc' := 249) (ci := 2) (n := 0) hc_law ho_law rfl c5 (w_X3_thrown D l hl x2 h3 e8) (wA_l q2316) q2317 (wA_l q2318) q85 q2319 hy_126 ⟨Nat.le_of_ble_eq_true rfl, Nat.le_of_ble_eq_true rfl⟩ rfl rfl (Nat.le_of_ble_eq_true rfl) dL_law_246 rfl (kS ?_) kN
  refine v_iload (pc' := 251) hc_law dL_law_249 rfl 7 rfl ?_
  refine v_icmp_eq (pt := 256) (pf := 254) hc_law dL_law_251 rfl rfl e (fun _ e => ?_) (fun _ e => ?_)
  · refine v_iload (pc' := 258) hc_law dL_law_256 rfl 7 rfl ?_
    refine v_if_ne (pt := 273) (pf := 261) hc_law dL_law_258 rfl rfl e (fun _ e => ?_) (fun _ e => ?_)
    · refine v_aload_n (pc' := 262) hc_law dL_law_261 rfl rfl 4 rfl ?_
      refine v_iconst (pc' := 263) (v := 0) hc_law dL_law_262 rfl rfl ?_
      refine v_lald (pc' := 264) hc_law dL_law_263 rfl e (fun v9 _ e => ?_)
      refine v_iload (pc' := 266) hc_law dL_law_264 rfl 0 rfl ?_
      refine v_i2l (pc' := 267) hc_law dL_law_266 rfl ?_
      refine v_lcmp (pc' := 268) hc_law dL_law_267 rfl ?_
      refine v_if_eq (pt := 273) (pf := 271) hc_law dL_law_268 rfl rfl e (fun _ e => ?_) (fun _ e => ?_)
      · refine v_goto (pt := 2222) hc_law dL_law_273 rfl ?_
        refine v_iinc (pc' := 2225) (lv' := [(5, .int (x5 + 4)), (7, .int r2), (0, .ref x0), (1, .ref x1), (2, .ref x2), (3, .ref x3), (4, .ref x4), (6, .int x6)]) (v := x5 + 4) hc_law dL_law_2222 rfl 6 rfl rfl (Nat.le_of_ble_eq_true rfl) rfl ?_
        refine v_goto (pt := 28) hc_law dL_law_2225 rfl ?_
        refine v_pick [2, 3, 4, 5, 6, 0] rfl ?_
        exact R28 x0 x1 x2 x3 x4 (x5 + 4) h7 e
      · refine v_iconst (pc' := 272) (v := 0) hc_law dL_law_271 rfl rfl ?_
        obtain ⟨rfl, rfl⟩ := ret_of e
        exact v_zret hc_law rfl (ft := .boolean) rfl dL_law_272 rfl rfl
    · refine v_goto (pt := 2222) hc_law dL_law_273 rfl ?_
      refine v_iinc (pc' := 2225) (lv' := [(5, .int (x5 + 4)), (7, .int r2), (0, .ref x0), (1, .ref x1), (2, .ref x2), (3, .ref x3), (4, .ref x4), (6, .int x6)]) (v := x5 + 4) hc_law dL_law_2222 rfl 6 rfl rfl (Nat.le_of_ble_eq_true rfl) rfl ?_
      refine v_goto (pt := 28) hc_law dL_law_2225 rfl ?_
      refine v_pick [2, 3, 4, 5, 6, 0] rfl ?_
      exact R28 x0 x1 x2 x3 x4 (x5 + 4) h7 e
  · refine v_iconst (pc' := 255) (v := 0) hc_law dL_law_254 rfl rfl ?_
    obtain ⟨rfl, rfl⟩ := ret_of e
    exact v_zret hc_law rfl (ft := .boolean) rfl dL_law_255 rfl rfl
def f_law_j213 (rec28 : Nat → Nat → Nat → Nat → Nat → Int32 → AH → Option (Int32 × AH)) (x0 : Nat) (x1 : Nat) (x2 : Nat) (x3 : Nat) (x4 : Nat) (x5 : Int32) (s0 : Nat) (s1 : Int32) (s2 : Int32) (h : AH) : Option (Int32 × AH) :=
  bd2 (f_X0_block s0 s1 s2 x3 h) fun r1 h2 =>
  bd (ldI h2 0 x0 (x5 + (1 : Int32))) fun v4 =>
  bd (ldI h2 0 x0 (x5 + (2 : Int32))) fun v5 =>
  if v5 = 0 then (
    f_law_j240 rec28 x0 x1 x2 x3 x4 x5 r1 x2 v4 (0 : Int32) h2
  ) else (
    f_law_j240 rec28 x0 x1 x2 x3 x4 x5 r1 x2 v4 (1 : Int32) h2
  )
theorem w_law_j213 (D : va_G) (l : Launch) (hl : l.stackTraces = false) (as : List Value) (h0 : AH) {r : Int32} {hF : AH} (rec28 : Nat → Nat → Nat → Nat → Nat → Int32 → AH → Option (Int32 × AH)) (R28 : ∀ x0 x1 x2 x3 x4 x5 k, rec28 x0 x1 x2 x3 x4 x5 k = some (r, hF) → V (G_law D l as h0 hF (oI r)) k 28 [(0, .ref x0), (1, .ref x1), (2, .ref x2), (3, .ref x3), (4, .ref x4), (5, .int x5)] []) (x0 : Nat) (x1 : Nat) (x2 : Nat) (x3 : Nat) (x4 : Nat) (x5 : Int32) (s0 : Nat) (s1 : Int32) (s2 : Int32) (h : AH) (e : f_law_j213 rec28 x0 x1 x2 x3 x4 x5 s0 s1 s2 h = some (r, hF)) : V (G_law D l as h0 hF (oI r)) h 213 [(0, .ref x0), (1, .ref x1), (2, .ref x2), (3, .ref x3), (4, .ref x4), (5, .int x5)] [.int s2, .int s1, .ref s0] := by
  unfold f_law_j213 at e
  refine v_aload_n (pc' := 214) hc_law dL_law_213 rfl rfl 3 rfl ?_
  obtain ⟨r1, h2, e3, e⟩ := bd2_of e
  refine k_SX (pc' := 217) (x := ⟨"BlockPapersLaw", "block", "(LBlockPapers;IZ[J)I"⟩) (n := 4) hc_law ho_law (w_X0_block D l hl s0 s1 s2 x3 h e3) (wA_l q920) q921 q74 q922 hy_116 ⟨Nat.le_of_ble_eq_true rfl, Nat.le_of_ble_eq_true rfl⟩ rfl rfl (Nat.le_of_ble_eq_true rfl) dL_law_214 rfl (kS ?_) kN
  refine v_istore (pc' := 219) (lv' := [(6, .int r1), (0, .ref x0), (1, .ref x1), (2, .ref x2), (3, .ref x3), (4, .ref x4), (5, .int x5)]) hc_law dL_law_217 rfl (Nat.le_of_ble_eq_true rfl) rfl ?_
  refine v_aload_n (pc' := 220) hc_law dL_law_219 rfl rfl 3 rfl ?_
  refine v_aload_n (pc' := 221) hc_law dL_law_220 rfl rfl 1 rfl ?_
  refine v_iload (pc' := 223) hc_law dL_law_221 rfl 6 rfl ?_
  refine v_iconst (pc' := 224) (v := 1) hc_law dL_law_223 rfl rfl ?_
  refine v_iadd (pc' := 225) hc_law dL_law_224 rfl ?_
  refine v_iald (pc' := 226) hc_law dL_law_225 rfl e (fun v4 _ e => ?_)
  refine v_aload_n (pc' := 227) hc_law dL_law_226 rfl rfl 1 rfl ?_
  refine v_iload (pc' := 229) hc_law dL_law_227 rfl 6 rfl ?_
  refine v_iconst (pc' := 230) (v := 2) hc_law dL_law_229 rfl rfl ?_
  refine v_iadd (pc' := 231) hc_law dL_law_230 rfl ?_
  refine v_iald (pc' := 232) hc_law dL_law_231 rfl e (fun v5 _ e => ?_)
  refine v_if_eq (pt := 239) (pf := 235) hc_law dL_law_232 rfl rfl e (fun _ e => ?_) (fun _ e => ?_)
  · refine v_iconst (pc' := 240) (v := 0) hc_law dL_law_239 rfl rfl ?_
    refine v_pick [1, 2, 3, 4, 5, 6, 0] rfl ?_
    exact w_law_j240 D l hl as h0 rec28 R28 x0 x1 x2 x3 x4 x5 r1 x2 v4 (0 : Int32) h2 e
  · refine v_iconst (pc' := 236) (v := 1) hc_law dL_law_235 rfl rfl ?_
    refine v_goto (pt := 240) hc_law dL_law_236 rfl ?_
    refine v_pick [1, 2, 3, 4, 5, 6, 0] rfl ?_
    exact w_law_j240 D l hl as h0 rec28 R28 x0 x1 x2 x3 x4 x5 r1 x2 v4 (1 : Int32) h2 e
def f_law_j1176 (rec28 : Nat → Nat → Nat → Nat → Nat → Int32 → AH → Option (Int32 × AH)) (x0 : Nat) (x1 : Nat) (x2 : Nat) (x3 : Nat) (x4 : Nat) (x5 : Int32) (x6 : Int32) (s0 : Nat) (s1 : Int32) (s2 : Int32) (s3 : Int32) (h : AH) : Option (Int32 × AH) :=
  gd (isC h 2 s0) <|
  bd2 (f_X3_why s0 s1 s2 s3 h) fun r2 h3 =>
  gd (isC h3 2 x2) <|
  bd2 (f_X3_thrown x2 h3) fun r6 h7 =>
  if r6 = x6 then (
    if x6 = 0 then (
      bd (ldL h7 x3 (0 : Int32)) fun v9 =>
      if (lg_cmp v9 r2.toInt64) = 0 then (
        rec28 x0 x1 x2 x3 x4 (x5 + 4) h7
      ) else (
        some ((0 : Int32), h7)
      )
    ) else (
      rec28 x0 x1 x2 x3 x4 (x5 + 4) h7
    )
  ) else (
    some ((0 : Int32), h7)
  )
theorem w_law_j1176 (D : va_G) (l : Launch) (hl : l.stackTraces = false) (as : List Value) (h0 : AH) {r : Int32} {hF : AH} (rec28 : Nat → Nat → Nat → Nat → Nat → Int32 → AH → Option (Int32 × AH)) (R28 : ∀ x0 x1 x2 x3 x4 x5 k, rec28 x0 x1 x2 x3 x4 x5 k = some (r, hF) → V (G_law D l as h0 hF (oI r)) k 28 [(0, .ref x0), (1, .ref x1), (2, .ref x2), (3, .ref x3), (4, .ref x4), (5, .int x5)] []) (x0 : Nat) (x1 : Nat) (x2 : Nat) (x3 : Nat) (x4 : Nat) (x5 : Int32) (x6 : Int32) (s0 : Nat) (s1 : Int32) (s2 : Int32) (s3 : Int32) (h : AH) (e : f_law_j1176 rec28 x0 x1 x2 x3 x4 x5 x6 s0 s1 s2 s3 h = some (r, hF)) : V (G_law D l as h0 hF (oI r)) h 1176 [(0, .ref x0), (1, .ref x1), (2, .ref x2), (3, .ref x3), (4, .ref x4), (5, .int x5), (6, .int x6)] [.int s3, .int s2, .int s1, .ref s0] := by
  unfold f_law_j1176 at e
  obtain ⟨c1, e⟩ := gd_of e
  obtain ⟨r2, h3, e4, e⟩ := bd2_of e
  refine k_V (pc' := 1179) (ci := 2) (n := 3) hc_law ho_law rfl c1 (w_X3_why D l hl s0 s1 s2 s3 h e4) (wA_l q2506) q2507 (wA_l q2508) q85 q2509 hy_200 ⟨Nat.le_of_ble_eq_true rfl, Nat.le_of_ble_eq_true rfl⟩ rfl rfl (Nat.le_of_ble_eq_true rfl) dL_law_1176 rfl (kS ?_) kN
  refine v_istore (pc' := 1181) (lv' := [(7, .int r2), (0, .ref x0), (1, .ref x1), (2, .ref x2), (3, .ref x3), (4, .ref x4), (5, .int x5), (6, .int x6)]) hc_law dL_law_1179 rfl (Nat.le_of_ble_eq_true rfl) rfl ?_
  refine v_aload_n (pc' := 1182) hc_law dL_law_1181 rfl rfl 3 rfl ?_
  obtain ⟨c5, e⟩ := gd_of e
  obtain ⟨r6, h7, e8, e⟩ := bd2_of e
  refine k_V (pc' := 1185) (ci := 2) (n := 0) hc_law ho_law rfl c5 (w_X3_thrown D l hl x2 h3 e8) (wA_l q2316) q2317 (wA_l q2318) q85 q2319 hy_126 ⟨Nat.le_of_ble_eq_true rfl, Nat.le_of_ble_eq_true rfl⟩ rfl rfl (Nat.le_of_ble_eq_true rfl) dL_law_1182 rfl (kS ?_) kN
  refine v_iload (pc' := 1187) hc_law dL_law_1185 rfl 7 rfl ?_
  refine v_icmp_eq (pt := 1192) (pf := 1190) hc_law dL_law_1187 rfl rfl e (fun _ e => ?_) (fun _ e => ?_)
  · refine v_iload (pc' := 1194) hc_law dL_law_1192 rfl 7 rfl ?_
    refine v_if_ne (pt := 1209) (pf := 1197) hc_law dL_law_1194 rfl rfl e (fun _ e => ?_) (fun _ e => ?_)
    · refine v_aload_n (pc' := 1198) hc_law dL_law_1197 rfl rfl 4 rfl ?_
      refine v_iconst (pc' := 1199) (v := 0) hc_law dL_law_1198 rfl rfl ?_
      refine v_lald (pc' := 1200) hc_law dL_law_1199 rfl e (fun v9 _ e => ?_)
      refine v_iload (pc' := 1202) hc_law dL_law_1200 rfl 0 rfl ?_
      refine v_i2l (pc' := 1203) hc_law dL_law_1202 rfl ?_
      refine v_lcmp (pc' := 1204) hc_law dL_law_1203 rfl ?_
      refine v_if_eq (pt := 1209) (pf := 1207) hc_law dL_law_1204 rfl rfl e (fun _ e => ?_) (fun _ e => ?_)
      · refine v_goto (pt := 2222) hc_law dL_law_1209 rfl ?_
        refine v_iinc (pc' := 2225) (lv' := [(5, .int (x5 + 4)), (7, .int r2), (0, .ref x0), (1, .ref x1), (2, .ref x2), (3, .ref x3), (4, .ref x4), (6, .int x6)]) (v := x5 + 4) hc_law dL_law_2222 rfl 6 rfl rfl (Nat.le_of_ble_eq_true rfl) rfl ?_
        refine v_goto (pt := 28) hc_law dL_law_2225 rfl ?_
        refine v_pick [2, 3, 4, 5, 6, 0] rfl ?_
        exact R28 x0 x1 x2 x3 x4 (x5 + 4) h7 e
      · refine v_iconst (pc' := 1208) (v := 0) hc_law dL_law_1207 rfl rfl ?_
        obtain ⟨rfl, rfl⟩ := ret_of e
        exact v_zret hc_law rfl (ft := .boolean) rfl dL_law_1208 rfl rfl
    · refine v_goto (pt := 2222) hc_law dL_law_1209 rfl ?_
      refine v_iinc (pc' := 2225) (lv' := [(5, .int (x5 + 4)), (7, .int r2), (0, .ref x0), (1, .ref x1), (2, .ref x2), (3, .ref x3), (4, .ref x4), (6, .int x6)]) (v := x5 + 4) hc_law dL_law_2222 rfl 6 rfl rfl (Nat.le_of_ble_eq_true rfl) rfl ?_
      refine v_goto (pt := 28) hc_law dL_law_2225 rfl ?_
      refine v_pick [2, 3, 4, 5, 6, 0] rfl ?_
      exact R28 x0 x1 x2 x3 x4 (x5 + 4) h7 e
  · refine v_iconst (pc' := 1191) (v := 0) hc_law dL_law_1190 rfl rfl ?_
    obtain ⟨rfl, rfl⟩ := ret_of e
    exact v_zret hc_law rfl (ft := .boolean) rfl dL_law_1191 rfl rfl
def f_law_j1143 (rec28 : Nat → Nat → Nat → Nat → Nat → Int32 → AH → Option (Int32 × AH)) (x0 : Nat) (x1 : Nat) (x2 : Nat) (x3 : Nat) (x4 : Nat) (x5 : Int32) (s0 : Nat) (s1 : Int32) (s2 : Int32) (s3 : Int32) (h : AH) : Option (Int32 × AH) :=
  bd2 (f_X0_why s0 s1 s2 s3 x3 h) fun r1 h2 =>
  bd (ldI h2 0 x0 (x5 + (1 : Int32))) fun v4 =>
  bd (ldI h2 0 x0 (x5 + (2 : Int32))) fun v5 =>
  bd (ldI h2 0 x0 (x5 + (3 : Int32))) fun v6 =>
  if v6 = 0 then (
    f_law_j1176 rec28 x0 x1 x2 x3 x4 x5 r1 x2 v4 v5 (0 : Int32) h2
  ) else (
    f_law_j1176 rec28 x0 x1 x2 x3 x4 x5 r1 x2 v4 v5 (1 : Int32) h2
  )
theorem w_law_j1143 (D : va_G) (l : Launch) (hl : l.stackTraces = false) (as : List Value) (h0 : AH) {r : Int32} {hF : AH} (rec28 : Nat → Nat → Nat → Nat → Nat → Int32 → AH → Option (Int32 × AH)) (R28 : ∀ x0 x1 x2 x3 x4 x5 k, rec28 x0 x1 x2 x3 x4 x5 k = some (r, hF) → V (G_law D l as h0 hF (oI r)) k 28 [(0, .ref x0), (1, .ref x1), (2, .ref x2), (3, .ref x3), (4, .ref x4), (5, .int x5)] []) (x0 : Nat) (x1 : Nat) (x2 : Nat) (x3 : Nat) (x4 : Nat) (x5 : Int32) (s0 : Nat) (s1 : Int32) (s2 : Int32) (s3 : Int32) (h : AH) (e : f_law_j1143 rec28 x0 x1 x2 x3 x4 x5 s0 s1 s2 s3 h = some (r, hF)) : V (G_law D l as h0 hF (oI r)) h 1143 [(0, .ref x0), (1, .ref x1), (2, .ref x2), (3, .ref x3), (4, .ref x4), (5, .int x5)] [.int s3, .int s2, .int s1, .ref s0] := by
  unfold f_law_j1143 at e
  refine v_aload_n (pc' := 1144) hc_law dL_law_1143 rfl rfl 3 rfl ?_
  obtain ⟨r1, h2, e3, e⟩ := bd2_of e
  refine k_SX (pc' := 1147) (x := ⟨"BlockPapersLaw", "why", "(LBlockPapers;IIZ[J)I"⟩) (n := 5) hc_law ho_law (w_X0_why D l hl s0 s1 s2 s3 x3 h e3) (wA_l q1667) q1668 q74 q1669 hy_199 ⟨Nat.le_of_ble_eq_true rfl, Nat.le_of_ble_eq_true rfl⟩ rfl rfl (Nat.le_of_ble_eq_true rfl) dL_law_1144 rfl (kS ?_) kN
  refine v_istore (pc' := 1149) (lv' := [(6, .int r1), (0, .ref x0), (1, .ref x1), (2, .ref x2), (3, .ref x3), (4, .ref x4), (5, .int x5)]) hc_law dL_law_1147 rfl (Nat.le_of_ble_eq_true rfl) rfl ?_
  refine v_aload_n (pc' := 1150) hc_law dL_law_1149 rfl rfl 3 rfl ?_
  refine v_aload_n (pc' := 1151) hc_law dL_law_1150 rfl rfl 1 rfl ?_
  refine v_iload (pc' := 1153) hc_law dL_law_1151 rfl 6 rfl ?_
  refine v_iconst (pc' := 1154) (v := 1) hc_law dL_law_1153 rfl rfl ?_
  refine v_iadd (pc' := 1155) hc_law dL_law_1154 rfl ?_
  refine v_iald (pc' := 1156) hc_law dL_law_1155 rfl e (fun v4 _ e => ?_)
  refine v_aload_n (pc' := 1157) hc_law dL_law_1156 rfl rfl 1 rfl ?_
  refine v_iload (pc' := 1159) hc_law dL_law_1157 rfl 6 rfl ?_
  refine v_iconst (pc' := 1160) (v := 2) hc_law dL_law_1159 rfl rfl ?_
  refine v_iadd (pc' := 1161) hc_law dL_law_1160 rfl ?_
  refine v_iald (pc' := 1162) hc_law dL_law_1161 rfl e (fun v5 _ e => ?_)
  refine v_aload_n (pc' := 1163) hc_law dL_law_1162 rfl rfl 1 rfl ?_
  refine v_iload (pc' := 1165) hc_law dL_law_1163 rfl 6 rfl ?_
  refine v_iconst (pc' := 1166) (v := 3) hc_law dL_law_1165 rfl rfl ?_
  refine v_iadd (pc' := 1167) hc_law dL_law_1166 rfl ?_
  refine v_iald (pc' := 1168) hc_law dL_law_1167 rfl e (fun v6 _ e => ?_)
  refine v_if_eq (pt := 1175) (pf := 1171) hc_law dL_law_1168 rfl rfl e (fun _ e => ?_) (fun _ e => ?_)
  · refine v_iconst (pc' := 1176) (v := 0) hc_law dL_law_1175 rfl rfl ?_
    refine v_pick [1, 2, 3, 4, 5, 6, 0] rfl ?_
    exact w_law_j1176 D l hl as h0 rec28 R28 x0 x1 x2 x3 x4 x5 r1 x2 v4 v5 (0 : Int32) h2 e
  · refine v_iconst (pc' := 1172) (v := 1) hc_law dL_law_1171 rfl rfl ?_
    refine v_goto (pt := 1176) hc_law dL_law_1172 rfl ?_
    refine v_pick [1, 2, 3, 4, 5, 6, 0] rfl ?_
    exact w_law_j1176 D l hl as h0 rec28 R28 x0 x1 x2 x3 x4 x5 r1 x2 v4 v5 (1 : Int32) h2 e
def f_law_j2085 (rec28 : Nat → Nat → Nat → Nat → Nat → Int32 → AH → Option (Int32 × AH)) (x0 : Nat) (x1 : Nat) (x2 : Nat) (x3 : Nat) (x4 : Nat) (x5 : Int32) (x6 : Int32) (s0 : Nat) (s1 : Int32) (s2 : Int32) (h : AH) : Option (Int32 × AH) :=
  gd (isC h 2 s0) <|
  bd2 (f_X3_refusal s0 s1 s2 h) fun r2 h3 =>
  gd (isC h3 2 x2) <|
  bd2 (f_X3_thrown x2 h3) fun r6 h7 =>
  if r6 = x6 then (
    if x6 = 0 then (
      bd (ldL h7 x3 (0 : Int32)) fun v9 =>
      if (lg_cmp v9 r2.toInt64) = 0 then (
        rec28 x0 x1 x2 x3 x4 (x5 + 4) h7
      ) else (
        some ((0 : Int32), h7)
      )
    ) else (
      rec28 x0 x1 x2 x3 x4 (x5 + 4) h7
    )
  ) else (
    some ((0 : Int32), h7)
  )
theorem w_law_j2085 (D : va_G) (l : Launch) (hl : l.stackTraces = false) (as : List Value) (h0 : AH) {r : Int32} {hF : AH} (rec28 : Nat → Nat → Nat → Nat → Nat → Int32 → AH → Option (Int32 × AH)) (R28 : ∀ x0 x1 x2 x3 x4 x5 k, rec28 x0 x1 x2 x3 x4 x5 k = some (r, hF) → V (G_law D l as h0 hF (oI r)) k 28 [(0, .ref x0), (1, .ref x1), (2, .ref x2), (3, .ref x3), (4, .ref x4), (5, .int x5)] []) (x0 : Nat) (x1 : Nat) (x2 : Nat) (x3 : Nat) (x4 : Nat) (x5 : Int32) (x6 : Int32) (s0 : Nat) (s1 : Int32) (s2 : Int32) (h : AH) (e : f_law_j2085 rec28 x0 x1 x2 x3 x4 x5 x6 s0 s1 s2 h = some (r, hF)) : V (G_law D l as h0 hF (oI r)) h 2085 [(0, .ref x0), (1, .ref x1), (2, .ref x2), (3, .ref x3), (4, .ref x4), (5, .int x5), (6, .int x6)] [.int s2, .int s1, .ref s0] := by
  unfold f_law_j2085 at e
  obtain ⟨c1, e⟩ := gd_of e
  obtain ⟨r2, h3, e4, e⟩ := bd2_of e
  refine k_V (pc' := 2088) (ci := 2) (n := 2) hc_law ho_law rfl c1 (w_X3_refusal D l hl s0 s1 s2 h e4) (wA_l q2658) q2659 (wA_l q2660) q85 q2661 hy_343 ⟨Nat.le_of_ble_eq_true rfl, Nat.le_of_ble_eq_true rfl⟩ rfl rfl (Nat.le_of_ble_eq_true rfl) dL_law_2085 rfl (kS ?_) kN
  refine v_istore (pc' := 2090) (lv' := [(7, .int r2), (0, .ref x0), (1, .ref x1), (2, .ref x2), (3, .ref x3), (4, .ref x4), (5, .int x5), (6, .int x6)]) hc_law dL_law_2088 rfl (Nat.le_of_ble_eq_true rfl) rfl ?_
  refine v_aload_n (pc' := 2091) hc_law dL_law_2090 rfl rfl 3 rfl ?_
  obtain ⟨c5, e⟩ := gd_of e
  obtain ⟨r6, h7, e8, e⟩ := bd2_of e
  refine k_V (pc' := 2094) (ci := 2) (n := 0) hc_law ho_law rfl c5 (w_X3_thrown D l hl x2 h3 e8) (wA_l q2316) q2317 (wA_l q2318) q85 q2319 hy_126 ⟨Nat.le_of_ble_eq_true rfl, Nat.le_of_ble_eq_true rfl⟩ rfl rfl (Nat.le_of_ble_eq_true rfl) dL_law_2091 rfl (kS ?_) kN
  refine v_iload (pc' := 2096) hc_law dL_law_2094 rfl 7 rfl ?_
  refine v_icmp_eq (pt := 2101) (pf := 2099) hc_law dL_law_2096 rfl rfl e (fun _ e => ?_) (fun _ e => ?_)
  · refine v_iload (pc' := 2103) hc_law dL_law_2101 rfl 7 rfl ?_
    refine v_if_ne (pt := 2118) (pf := 2106) hc_law dL_law_2103 rfl rfl e (fun _ e => ?_) (fun _ e => ?_)
    · refine v_aload_n (pc' := 2107) hc_law dL_law_2106 rfl rfl 4 rfl ?_
      refine v_iconst (pc' := 2108) (v := 0) hc_law dL_law_2107 rfl rfl ?_
      refine v_lald (pc' := 2109) hc_law dL_law_2108 rfl e (fun v9 _ e => ?_)
      refine v_iload (pc' := 2111) hc_law dL_law_2109 rfl 0 rfl ?_
      refine v_i2l (pc' := 2112) hc_law dL_law_2111 rfl ?_
      refine v_lcmp (pc' := 2113) hc_law dL_law_2112 rfl ?_
      refine v_if_eq (pt := 2118) (pf := 2116) hc_law dL_law_2113 rfl rfl e (fun _ e => ?_) (fun _ e => ?_)
      · refine v_goto (pt := 2222) hc_law dL_law_2118 rfl ?_
        refine v_iinc (pc' := 2225) (lv' := [(5, .int (x5 + 4)), (7, .int r2), (0, .ref x0), (1, .ref x1), (2, .ref x2), (3, .ref x3), (4, .ref x4), (6, .int x6)]) (v := x5 + 4) hc_law dL_law_2222 rfl 6 rfl rfl (Nat.le_of_ble_eq_true rfl) rfl ?_
        refine v_goto (pt := 28) hc_law dL_law_2225 rfl ?_
        refine v_pick [2, 3, 4, 5, 6, 0] rfl ?_
        exact R28 x0 x1 x2 x3 x4 (x5 + 4) h7 e
      · refine v_iconst (pc' := 2117) (v := 0) hc_law dL_law_2116 rfl rfl ?_
        obtain ⟨rfl, rfl⟩ := ret_of e
        exact v_zret hc_law rfl (ft := .boolean) rfl dL_law_2117 rfl rfl
    · refine v_goto (pt := 2222) hc_law dL_law_2118 rfl ?_
      refine v_iinc (pc' := 2225) (lv' := [(5, .int (x5 + 4)), (7, .int r2), (0, .ref x0), (1, .ref x1), (2, .ref x2), (3, .ref x3), (4, .ref x4), (6, .int x6)]) (v := x5 + 4) hc_law dL_law_2222 rfl 6 rfl rfl (Nat.le_of_ble_eq_true rfl) rfl ?_
      refine v_goto (pt := 28) hc_law dL_law_2225 rfl ?_
      refine v_pick [2, 3, 4, 5, 6, 0] rfl ?_
      exact R28 x0 x1 x2 x3 x4 (x5 + 4) h7 e
  · refine v_iconst (pc' := 2100) (v := 0) hc_law dL_law_2099 rfl rfl ?_
    obtain ⟨rfl, rfl⟩ := ret_of e
    exact v_zret hc_law rfl (ft := .boolean) rfl dL_law_2100 rfl rfl
def f_law_j2058 (rec28 : Nat → Nat → Nat → Nat → Nat → Int32 → AH → Option (Int32 × AH)) (x0 : Nat) (x1 : Nat) (x2 : Nat) (x3 : Nat) (x4 : Nat) (x5 : Int32) (s0 : Nat) (s1 : Int32) (s2 : Int32) (h : AH) : Option (Int32 × AH) :=
  bd2 (f_X0_refusal s0 s1 s2 x3 h) fun r1 h2 =>
  bd (ldI h2 0 x0 (x5 + (1 : Int32))) fun v4 =>
  bd (ldI h2 0 x0 (x5 + (2 : Int32))) fun v5 =>
  if v5 = 0 then (
    f_law_j2085 rec28 x0 x1 x2 x3 x4 x5 r1 x2 v4 (0 : Int32) h2
  ) else (
    f_law_j2085 rec28 x0 x1 x2 x3 x4 x5 r1 x2 v4 (1 : Int32) h2
  )
theorem w_law_j2058 (D : va_G) (l : Launch) (hl : l.stackTraces = false) (as : List Value) (h0 : AH) {r : Int32} {hF : AH} (rec28 : Nat → Nat → Nat → Nat → Nat → Int32 → AH → Option (Int32 × AH)) (R28 : ∀ x0 x1 x2 x3 x4 x5 k, rec28 x0 x1 x2 x3 x4 x5 k = some (r, hF) → V (G_law D l as h0 hF (oI r)) k 28 [(0, .ref x0), (1, .ref x1), (2, .ref x2), (3, .ref x3), (4, .ref x4), (5, .int x5)] []) (x0 : Nat) (x1 : Nat) (x2 : Nat) (x3 : Nat) (x4 : Nat) (x5 : Int32) (s0 : Nat) (s1 : Int32) (s2 : Int32) (h : AH) (e : f_law_j2058 rec28 x0 x1 x2 x3 x4 x5 s0 s1 s2 h = some (r, hF)) : V (G_law D l as h0 hF (oI r)) h 2058 [(0, .ref x0), (1, .ref x1), (2, .ref x2), (3, .ref x3), (4, .ref x4), (5, .int x5)] [.int s2, .int s1, .ref s0] := by
  unfold f_law_j2058 at e
  refine v_aload_n (pc' := 2059) hc_law dL_law_2058 rfl rfl 3 rfl ?_
  obtain ⟨r1, h2, e3, e⟩ := bd2_of e
  refine k_SX (pc' := 2062) (x := ⟨"BlockPapersLaw", "refusal", "(LBlockPapers;IZ[J)I"⟩) (n := 4) hc_law ho_law (w_X0_refusal D l hl s0 s1 s2 x3 h e3) (wA_l q2177) q2178 q74 q2179 hy_342 ⟨Nat.le_of_ble_eq_true rfl, Nat.le_of_ble_eq_true rfl⟩ rfl rfl (Nat.le_of_ble_eq_true rfl) dL_law_2059 rfl (kS ?_) kN
  refine v_istore (pc' := 2064) (lv' := [(6, .int r1), (0, .ref x0), (1, .ref x1), (2, .ref x2), (3, .ref x3), (4, .ref x4), (5, .int x5)]) hc_law dL_law_2062 rfl (Nat.le_of_ble_eq_true rfl) rfl ?_
  refine v_aload_n (pc' := 2065) hc_law dL_law_2064 rfl rfl 3 rfl ?_
  refine v_aload_n (pc' := 2066) hc_law dL_law_2065 rfl rfl 1 rfl ?_
  refine v_iload (pc' := 2068) hc_law dL_law_2066 rfl 6 rfl ?_
  refine v_iconst (pc' := 2069) (v := 1) hc_law dL_law_2068 rfl rfl ?_
  refine v_iadd (pc' := 2070) hc_law dL_law_2069 rfl ?_
  refine v_iald (pc' := 2071) hc_law dL_law_2070 rfl e (fun v4 _ e => ?_)
  refine v_aload_n (pc' := 2072) hc_law dL_law_2071 rfl rfl 1 rfl ?_
  refine v_iload (pc' := 2074) hc_law dL_law_2072 rfl 6 rfl ?_
  refine v_iconst (pc' := 2075) (v := 2) hc_law dL_law_2074 rfl rfl ?_
  refine v_iadd (pc' := 2076) hc_law dL_law_2075 rfl ?_
  refine v_iald (pc' := 2077) hc_law dL_law_2076 rfl e (fun v5 _ e => ?_)
  refine v_if_eq (pt := 2084) (pf := 2080) hc_law dL_law_2077 rfl rfl e (fun _ e => ?_) (fun _ e => ?_)
  · refine v_iconst (pc' := 2085) (v := 0) hc_law dL_law_2084 rfl rfl ?_
    refine v_pick [1, 2, 3, 4, 5, 6, 0] rfl ?_
    exact w_law_j2085 D l hl as h0 rec28 R28 x0 x1 x2 x3 x4 x5 r1 x2 v4 (0 : Int32) h2 e
  · refine v_iconst (pc' := 2081) (v := 1) hc_law dL_law_2080 rfl rfl ?_
    refine v_goto (pt := 2085) hc_law dL_law_2081 rfl ?_
    refine v_pick [1, 2, 3, 4, 5, 6, 0] rfl ?_
    exact w_law_j2085 D l hl as h0 rec28 R28 x0 x1 x2 x3 x4 x5 r1 x2 v4 (1 : Int32) h2 e
def fb_law_l28 (rec : Nat → Nat → Nat → Nat → Nat → Int32 → AH → Option (Int32 × AH)) (x0 : Nat) (x1 : Nat) (x2 : Nat) (x3 : Nat) (x4 : Nat) (x5 : Int32) (h : AH) : Option (Int32 × AH) :=
  bd (aLn h x0) fun v1 =>
  if (v1 - (4 : Int32)) < x5 then (
    some ((1 : Int32), h)
  ) else (
    bd (ldI h 0 x0 x5) fun v2 =>
    if (v2 &&& (63 : Int32)) = 0 then (
      bd (ldI h 0 x0 (x5 + (1 : Int32))) fun v3 =>
      bd (ldI h 0 x0 (x5 + (2 : Int32))) fun v4 =>
      if v4 = 0 then (
        f_law_j213 rec x0 x1 x2 x3 x4 x5 x1 v3 (0 : Int32) h
      ) else (
        f_law_j213 rec x0 x1 x2 x3 x4 x5 x1 v3 (1 : Int32) h
      )
    ) else (
    if (v2 &&& (63 : Int32)) = 1 then (
      bd (ldI h 0 x0 (x5 + (1 : Int32))) fun v6 =>
      bd (ldI h 0 x0 (x5 + (2 : Int32))) fun v7 =>
      bd2 (f_X0_blockOf x1 v6 v7 x3 h) fun r8 h9 =>
      bd (ldI h9 0 x0 (x5 + (1 : Int32))) fun v11 =>
      bd (ldI h9 0 x0 (x5 + (2 : Int32))) fun v12 =>
      gd (isC h9 2 x2) <|
      bd2 (f_X3_blockOf x2 v11 v12 h9) fun r14 h15 =>
      gd (isC h15 2 x2) <|
      bd2 (f_X3_thrown x2 h15) fun r18 h19 =>
      if r18 = r8 then (
        if r8 = 0 then (
          bd (ldL h19 x3 (0 : Int32)) fun v21 =>
          if (lg_cmp v21 r14.toInt64) = 0 then (
            rec x0 x1 x2 x3 x4 (x5 + 4) h19
          ) else (
            some ((0 : Int32), h19)
          )
        ) else (
          rec x0 x1 x2 x3 x4 (x5 + 4) h19
        )
      ) else (
        some ((0 : Int32), h19)
      )
    ) else (
    if (v2 &&& (63 : Int32)) = 2 then (
      bd (ldI h 0 x0 (x5 + (1 : Int32))) fun v23 =>
      bd2 (f_X0_carve x1 v23 x3 h) fun r24 h25 =>
      bd (ldI h25 0 x0 (x5 + (1 : Int32))) fun v27 =>
      gd (isC h25 2 x2) <|
      bd2 (f_X3_carve x2 v27 h25) fun r29 h30 =>
      gd (isC h30 2 x2) <|
      bd2 (f_X3_thrown x2 h30) fun r33 h34 =>
      if r33 = r24 then (
        if r24 = 0 then (
          bd (ldL h34 x3 (0 : Int32)) fun v36 =>
          if (lg_cmp v36 r29.toInt64) = 0 then (
            rec x0 x1 x2 x3 x4 (x5 + 4) h34
          ) else (
            some ((0 : Int32), h34)
          )
        ) else (
          rec x0 x1 x2 x3 x4 (x5 + 4) h34
        )
      ) else (
        some ((0 : Int32), h34)
      )
    ) else (
    if (v2 &&& (63 : Int32)) = 3 then (
      bd (ldI h 0 x0 (x5 + (1 : Int32))) fun v38 =>
      bd (ldI h 0 x0 (x5 + (2 : Int32))) fun v39 =>
      bd (ldI h 0 x0 (x5 + (3 : Int32))) fun v40 =>
      bd2 (f_X0_ink x1 v38 v39 v40 x3 h) fun r41 h42 =>
      bd (ldI h42 0 x0 (x5 + (1 : Int32))) fun v44 =>
      bd (ldI h42 0 x0 (x5 + (2 : Int32))) fun v45 =>
      bd (ldI h42 0 x0 (x5 + (3 : Int32))) fun v46 =>
      gd (isC h42 2 x2) <|
      bd2 (f_X3_ink x2 v44 v45 v46 h42) fun r48 h49 =>
      gd (isC h49 2 x2) <|
      bd2 (f_X3_thrown x2 h49) fun r52 h53 =>
      if r52 = r41 then (
        if r41 = 0 then (
          bd (ldL h53 x3 (0 : Int32)) fun v55 =>
          if (lg_cmp v55 r48.toInt64) = 0 then (
            rec x0 x1 x2 x3 x4 (x5 + 4) h53
          ) else (
            some ((0 : Int32), h53)
          )
        ) else (
          rec x0 x1 x2 x3 x4 (x5 + 4) h53
        )
      ) else (
        some ((0 : Int32), h53)
      )
    ) else (
    if (v2 &&& (63 : Int32)) = 4 then (
      bd (ldI h 0 x0 (x5 + (1 : Int32))) fun v57 =>
      bd (ldI h 0 x0 (x5 + (2 : Int32))) fun v58 =>
      bd2 (f_X0_inkOf x1 v57 v58 x3 h) fun r59 h60 =>
      bd (ldI h60 0 x0 (x5 + (1 : Int32))) fun v62 =>
      bd (ldI h60 0 x0 (x5 + (2 : Int32))) fun v63 =>
      gd (isC h60 2 x2) <|
      bd2 (f_X3_inkOf x2 v62 v63 h60) fun r65 h66 =>
      gd (isC h66 2 x2) <|
      bd2 (f_X3_thrown x2 h66) fun r69 h70 =>
      if r69 = r59 then (
        if r59 = 0 then (
          bd (ldL h70 x3 (0 : Int32)) fun v72 =>
          if (lg_cmp v72 r65.toInt64) = 0 then (
            rec x0 x1 x2 x3 x4 (x5 + 4) h70
          ) else (
            some ((0 : Int32), h70)
          )
        ) else (
          rec x0 x1 x2 x3 x4 (x5 + 4) h70
        )
      ) else (
        some ((0 : Int32), h70)
      )
    ) else (
    if (v2 &&& (63 : Int32)) = 5 then (
      bd (ldI h 0 x0 (x5 + (1 : Int32))) fun v74 =>
      bd (ldI h 0 x0 (x5 + (2 : Int32))) fun v75 =>
      bd (ldI h 0 x0 (x5 + (3 : Int32))) fun v76 =>
      bd2 (f_X0_mix x1 v74 v75 v76 x3 h) fun r77 h78 =>
      bd (ldI h78 0 x0 (x5 + (1 : Int32))) fun v80 =>
      bd (ldI h78 0 x0 (x5 + (2 : Int32))) fun v81 =>
      bd (ldI h78 0 x0 (x5 + (3 : Int32))) fun v82 =>
      gd (isC h78 2 x2) <|
      bd2 (f_X3_mix x2 v80 v81 v82 h78) fun r84 h85 =>
      gd (isC h85 2 x2) <|
      bd2 (f_X3_thrown x2 h85) fun r88 h89 =>
      if r88 = r77 then (
        if r77 = 0 then (
          bd (ldL h89 x3 (0 : Int32)) fun v91 =>
          if (lg_cmp v91 r84.toInt64) = 0 then (
            rec x0 x1 x2 x3 x4 (x5 + 4) h89
          ) else (
            some ((0 : Int32), h89)
          )
        ) else (
          rec x0 x1 x2 x3 x4 (x5 + 4) h89
        )
      ) else (
        some ((0 : Int32), h89)
      )
    ) else (
    if (v2 &&& (63 : Int32)) = 6 then (
      bd (ldI h 0 x0 (x5 + (1 : Int32))) fun v93 =>
      bd (ldI h 0 x0 (x5 + (2 : Int32))) fun v94 =>
      bd (ldI h 0 x0 (x5 + (3 : Int32))) fun v95 =>
      bd2 (f_X0_print x1 v93 v94 v95 x3 h) fun r96 h97 =>
      bd (ldI h97 0 x0 (x5 + (1 : Int32))) fun v99 =>
      bd (ldI h97 0 x0 (x5 + (2 : Int32))) fun v100 =>
      bd (ldI h97 0 x0 (x5 + (3 : Int32))) fun v101 =>
      gd (isC h97 2 x2) <|
      bd2 (f_X3_print x2 v99 v100 v101 h97) fun r103 h104 =>
      gd (isC h104 2 x2) <|
      bd2 (f_X3_thrown x2 h104) fun r107 h108 =>
      if r107 = r96 then (
        if r96 = 0 then (
          bd (ldL h108 x3 (0 : Int32)) fun v110 =>
          if (lg_cmp v110 r103.toInt64) = 0 then (
            rec x0 x1 x2 x3 x4 (x5 + 4) h108
          ) else (
            some ((0 : Int32), h108)
          )
        ) else (
          rec x0 x1 x2 x3 x4 (x5 + 4) h108
        )
      ) else (
        some ((0 : Int32), h108)
      )
    ) else (
    if (v2 &&& (63 : Int32)) = 7 then (
      bd (ldI h 0 x0 (x5 + (1 : Int32))) fun v112 =>
      bd (ldI h 0 x0 (x5 + (2 : Int32))) fun v113 =>
      bd2 (f_X0_rollOf x1 v112 v113 x3 h) fun r114 h115 =>
      bd (ldI h115 0 x0 (x5 + (1 : Int32))) fun v117 =>
      bd (ldI h115 0 x0 (x5 + (2 : Int32))) fun v118 =>
      gd (isC h115 2 x2) <|
      bd2 (f_X3_rollOf x2 v117 v118 h115) fun r120 h121 =>
      gd (isC h121 2 x2) <|
      bd2 (f_X3_thrown x2 h121) fun r124 h125 =>
      if r124 = r114 then (
        if r114 = 0 then (
          bd (ldL h125 x3 (0 : Int32)) fun v127 =>
          if (lg_cmp v127 r120.toInt64) = 0 then (
            rec x0 x1 x2 x3 x4 (x5 + 4) h125
          ) else (
            some ((0 : Int32), h125)
          )
        ) else (
          rec x0 x1 x2 x3 x4 (x5 + 4) h125
        )
      ) else (
        some ((0 : Int32), h125)
      )
    ) else (
    if (v2 &&& (63 : Int32)) = 8 then (
      bd (ldI h 0 x0 (x5 + (1 : Int32))) fun v129 =>
      bd2 (f_X0_giveBack x1 v129 x3 h) fun r130 h131 =>
      bd (ldI h131 0 x0 (x5 + (1 : Int32))) fun v133 =>
      gd (isC h131 2 x2) <|
      bd2 (f_X3_giveBack x2 v133 h131) fun r135 h136 =>
      gd (isC h136 2 x2) <|
      bd2 (f_X3_thrown x2 h136) fun r139 h140 =>
      if r139 = r130 then (
        if r130 = 0 then (
          bd (ldL h140 x3 (0 : Int32)) fun v142 =>
          if (lg_cmp v142 r135.toInt64) = 0 then (
            rec x0 x1 x2 x3 x4 (x5 + 4) h140
          ) else (
            some ((0 : Int32), h140)
          )
        ) else (
          rec x0 x1 x2 x3 x4 (x5 + 4) h140
        )
      ) else (
        some ((0 : Int32), h140)
      )
    ) else (
    if (v2 &&& (63 : Int32)) = 9 then (
      bd (ldI h 0 x0 (x5 + (1 : Int32))) fun v144 =>
      bd (ldI h 0 x0 (x5 + (2 : Int32))) fun v145 =>
      bd2 (f_X0_room x1 v144 v145 x3 h) fun r146 h147 =>
      bd (ldI h147 0 x0 (x5 + (1 : Int32))) fun v149 =>
      bd (ldI h147 0 x0 (x5 + (2 : Int32))) fun v150 =>
      gd (isC h147 2 x2) <|
      bd2 (f_X3_room x2 v149 v150 h147) fun r152 h153 =>
      gd (isC h153 2 x2) <|
      bd2 (f_X3_thrown x2 h153) fun r156 h157 =>
      if r156 = r146 then (
        if r146 = 0 then (
          bd (ldL h157 x3 (0 : Int32)) fun v159 =>
          if (lg_cmp v159 r152.toInt64) = 0 then (
            rec x0 x1 x2 x3 x4 (x5 + 4) h157
          ) else (
            some ((0 : Int32), h157)
          )
        ) else (
          rec x0 x1 x2 x3 x4 (x5 + 4) h157
        )
      ) else (
        some ((0 : Int32), h157)
      )
    ) else (
    if (v2 &&& (63 : Int32)) = 10 then (
      bd (ldI h 0 x0 (x5 + (1 : Int32))) fun v161 =>
      bd (ldI h 0 x0 (x5 + (2 : Int32))) fun v162 =>
      bd2 (f_X0_roomOf x1 v161 v162 x3 h) fun r163 h164 =>
      bd (ldI h164 0 x0 (x5 + (1 : Int32))) fun v166 =>
      bd (ldI h164 0 x0 (x5 + (2 : Int32))) fun v167 =>
      gd (isC h164 2 x2) <|
      bd2 (f_X3_roomOf x2 v166 v167 h164) fun r169 h170 =>
      gd (isC h170 2 x2) <|
      bd2 (f_X3_thrown x2 h170) fun r173 h174 =>
      if r173 = r163 then (
        if r163 = 0 then (
          bd (ldL h174 x3 (0 : Int32)) fun v176 =>
          if (lg_cmp v176 r169.toInt64) = 0 then (
            rec x0 x1 x2 x3 x4 (x5 + 4) h174
          ) else (
            some ((0 : Int32), h174)
          )
        ) else (
          rec x0 x1 x2 x3 x4 (x5 + 4) h174
        )
      ) else (
        some ((0 : Int32), h174)
      )
    ) else (
    if (v2 &&& (63 : Int32)) = 11 then (
      bd (ldI h 0 x0 (x5 + (1 : Int32))) fun v178 =>
      bd (ldI h 0 x0 (x5 + (2 : Int32))) fun v179 =>
      bd (ldI h 0 x0 (x5 + (3 : Int32))) fun v180 =>
      bd2 (f_X0_dropOf x1 v178 v179 v180 x3 h) fun r181 h182 =>
      bd (ldI h182 0 x0 (x5 + (1 : Int32))) fun v184 =>
      bd (ldI h182 0 x0 (x5 + (2 : Int32))) fun v185 =>
      bd (ldI h182 0 x0 (x5 + (3 : Int32))) fun v186 =>
      gd (isC h182 2 x2) <|
      bd2 (f_X3_dropOf x2 v184 v185 v186 h182) fun r188 h189 =>
      gd (isC h189 2 x2) <|
      bd2 (f_X3_thrown x2 h189) fun r192 h193 =>
      if r192 = r181 then (
        if r181 = 0 then (
          bd (ldL h193 x3 (0 : Int32)) fun v195 =>
          if (lg_cmp v195 r188.toInt64) = 0 then (
            rec x0 x1 x2 x3 x4 (x5 + 4) h193
          ) else (
            some ((0 : Int32), h193)
          )
        ) else (
          rec x0 x1 x2 x3 x4 (x5 + 4) h193
        )
      ) else (
        some ((0 : Int32), h193)
      )
    ) else (
    if (v2 &&& (63 : Int32)) = 12 then (
      bd (ldI h 0 x0 (x5 + (1 : Int32))) fun v197 =>
      bd (ldI h 0 x0 (x5 + (2 : Int32))) fun v198 =>
      bd2 (f_X0_hang x1 v197 v198 x3 h) fun r199 h200 =>
      bd (ldI h200 0 x0 (x5 + (1 : Int32))) fun v202 =>
      bd (ldI h200 0 x0 (x5 + (2 : Int32))) fun v203 =>
      gd (isC h200 2 x2) <|
      bd2 (f_X3_hang x2 v202 v203 h200) fun r205 h206 =>
      gd (isC h206 2 x2) <|
      bd2 (f_X3_thrown x2 h206) fun r209 h210 =>
      if r209 = r199 then (
        if r199 = 0 then (
          bd (ldL h210 x3 (0 : Int32)) fun v212 =>
          if (lg_cmp v212 r205.toInt64) = 0 then (
            rec x0 x1 x2 x3 x4 (x5 + 4) h210
          ) else (
            some ((0 : Int32), h210)
          )
        ) else (
          rec x0 x1 x2 x3 x4 (x5 + 4) h210
        )
      ) else (
        some ((0 : Int32), h210)
      )
    ) else (
    if (v2 &&& (63 : Int32)) = 13 then (
      bd (ldI h 0 x0 (x5 + (1 : Int32))) fun v214 =>
      bd (ldI h 0 x0 (x5 + (2 : Int32))) fun v215 =>
      bd (ldI h 0 x0 (x5 + (3 : Int32))) fun v216 =>
      if v216 = 0 then (
        f_law_j1143 rec x0 x1 x2 x3 x4 x5 x1 v214 v215 (0 : Int32) h
      ) else (
        f_law_j1143 rec x0 x1 x2 x3 x4 x5 x1 v214 v215 (1 : Int32) h
      )
    ) else (
    if (v2 &&& (63 : Int32)) = 14 then (
      bd (ldI h 0 x0 (x5 + (1 : Int32))) fun v218 =>
      bd2 (f_X0_strip x1 v218 x3 h) fun r219 h220 =>
      bd (ldI h220 0 x0 (x5 + (1 : Int32))) fun v222 =>
      gd (isC h220 2 x2) <|
      bd2 (f_X3_strip x2 v222 h220) fun r224 h225 =>
      gd (isC h225 2 x2) <|
      bd2 (f_X3_thrown x2 h225) fun r228 h229 =>
      if r228 = r219 then (
        if r219 = 0 then (
          bd (ldL h229 x3 (0 : Int32)) fun v231 =>
          if (lg_cmp v231 r224.toInt64) = 0 then (
            rec x0 x1 x2 x3 x4 (x5 + 4) h229
          ) else (
            some ((0 : Int32), h229)
          )
        ) else (
          rec x0 x1 x2 x3 x4 (x5 + 4) h229
        )
      ) else (
        some ((0 : Int32), h229)
      )
    ) else (
    if (v2 &&& (63 : Int32)) = 15 then (
      bd (ldI h 0 x0 (x5 + (1 : Int32))) fun v233 =>
      bd2 (f_X0_isMatched x1 v233 x3 h) fun r234 h235 =>
      bd (ldI h235 0 x0 (x5 + (1 : Int32))) fun v237 =>
      gd (isC h235 2 x2) <|
      bd2 (f_X3_isMatched x2 v237 h235) fun r239 h240 =>
      gd (isC h240 2 x2) <|
      bd2 (f_X3_thrown x2 h240) fun r243 h244 =>
      if r243 = r234 then (
        if r234 = 0 then (
          bd (ldL h244 x3 (0 : Int32)) fun v246 =>
          if r239 = 0 then (
            if (lg_cmp v246 (0 : Int64)) = 0 then (
              rec x0 x1 x2 x3 x4 (x5 + 4) h244
            ) else (
              some ((0 : Int32), h244)
            )
          ) else (
            if (lg_cmp v246 (1 : Int64)) = 0 then (
              rec x0 x1 x2 x3 x4 (x5 + 4) h244
            ) else (
              some ((0 : Int32), h244)
            )
          )
        ) else (
          rec x0 x1 x2 x3 x4 (x5 + 4) h244
        )
      ) else (
        some ((0 : Int32), h244)
      )
    ) else (
    if (v2 &&& (63 : Int32)) = 16 then (
      bd (ldI h 0 x0 (x5 + (1 : Int32))) fun v248 =>
      bd2 (f_X0_bestRoll x1 v248 x3 h) fun r249 h250 =>
      bd (ldI h250 0 x0 (x5 + (1 : Int32))) fun v252 =>
      gd (isC h250 2 x2) <|
      bd2 (f_X3_bestRoll x2 v252 h250) fun r254 h255 =>
      gd (isC h255 2 x2) <|
      bd2 (f_X3_thrown x2 h255) fun r258 h259 =>
      if r258 = r249 then (
        if r249 = 0 then (
          bd (ldL h259 x3 (0 : Int32)) fun v261 =>
          if (lg_cmp v261 r254.toInt64) = 0 then (
            rec x0 x1 x2 x3 x4 (x5 + 4) h259
          ) else (
            some ((0 : Int32), h259)
          )
        ) else (
          rec x0 x1 x2 x3 x4 (x5 + 4) h259
        )
      ) else (
        some ((0 : Int32), h259)
      )
    ) else (
    if (v2 &&& (63 : Int32)) = 17 then (
      bd (ldI h 0 x0 (x5 + (1 : Int32))) fun v263 =>
      bd2 (f_X0_finish x1 v263 x3 h) fun r264 h265 =>
      bd (ldI h265 0 x0 (x5 + (1 : Int32))) fun v267 =>
      gd (isC h265 2 x2) <|
      bd2 (f_X3_finish x2 v267 h265) fun r269 h270 =>
      gd (isC h270 2 x2) <|
      bd2 (f_X3_thrown x2 h270) fun r273 h274 =>
      if r273 = r264 then (
        if r264 = 0 then (
          bd (ldL h274 x3 (0 : Int32)) fun v276 =>
          if (lg_cmp v276 r269.toInt64) = 0 then (
            rec x0 x1 x2 x3 x4 (x5 + 4) h274
          ) else (
            some ((0 : Int32), h274)
          )
        ) else (
          rec x0 x1 x2 x3 x4 (x5 + 4) h274
        )
      ) else (
        some ((0 : Int32), h274)
      )
    ) else (
    if (v2 &&& (63 : Int32)) = 18 then (
      bd (ldI h 0 x0 (x5 + (1 : Int32))) fun v278 =>
      bd (ldI h 0 x0 (x5 + (2 : Int32))) fun v279 =>
      bd2 (f_X0_dropsFrom x1 v278 v279 x3 h) fun r280 h281 =>
      bd (ldI h281 0 x0 (x5 + (1 : Int32))) fun v283 =>
      bd (ldI h281 0 x0 (x5 + (2 : Int32))) fun v284 =>
      gd (isC h281 2 x2) <|
      bd2 (f_X3_dropsFrom x2 v283 v284 h281) fun r286 h287 =>
      gd (isC h287 2 x2) <|
      bd2 (f_X3_thrown x2 h287) fun r290 h291 =>
      if r290 = r280 then (
        if r280 = 0 then (
          bd (ldL h291 x3 (0 : Int32)) fun v293 =>
          if (lg_cmp v293 r286.toInt64) = 0 then (
            rec x0 x1 x2 x3 x4 (x5 + 4) h291
          ) else (
            some ((0 : Int32), h291)
          )
        ) else (
          rec x0 x1 x2 x3 x4 (x5 + 4) h291
        )
      ) else (
        some ((0 : Int32), h291)
      )
    ) else (
    if (v2 &&& (63 : Int32)) = 19 then (
      bd (ldI h 0 x0 (x5 + (1 : Int32))) fun v295 =>
      bd (ldI h 0 x0 (x5 + (2 : Int32))) fun v296 =>
      bd2 (f_X0_dropsAgain x1 v295 v296 x3 h) fun r297 h298 =>
      bd (ldI h298 0 x0 (x5 + (1 : Int32))) fun v300 =>
      bd (ldI h298 0 x0 (x5 + (2 : Int32))) fun v301 =>
      gd (isC h298 2 x2) <|
      bd2 (f_X3_dropsAgain x2 v300 v301 h298) fun r303 h304 =>
      gd (isC h304 2 x2) <|
      bd2 (f_X3_thrown x2 h304) fun r307 h308 =>
      if r307 = r297 then (
        if r297 = 0 then (
          bd (ldL h308 x3 (0 : Int32)) fun v310 =>
          if (lg_cmp v310 r303.toInt64) = 0 then (
            rec x0 x1 x2 x3 x4 (x5 + 4) h308
          ) else (
            some ((0 : Int32), h308)
          )
        ) else (
          rec x0 x1 x2 x3 x4 (x5 + 4) h308
        )
      ) else (
        some ((0 : Int32), h308)
      )
    ) else (
    if (v2 &&& (63 : Int32)) = 20 then (
      bd (ldI h 0 x0 (x5 + (1 : Int32))) fun v312 =>
      bd2 (f_X0_line x1 v312 x3 h) fun r313 h314 =>
      bd (ldI h314 0 x0 (x5 + (1 : Int32))) fun v316 =>
      gd (isC h314 2 x2) <|
      bd2 (f_X3_line x2 v316 h314) fun r318 h319 =>
      gd (isC h319 2 x2) <|
      bd2 (f_X3_thrown x2 h319) fun r322 h323 =>
      if r322 = r313 then (
        if r313 = 0 then (
          bd (ldL h323 x3 (0 : Int32)) fun v325 =>
          if (lg_cmp v325 r318.toInt64) = 0 then (
            rec x0 x1 x2 x3 x4 (x5 + 4) h323
          ) else (
            some ((0 : Int32), h323)
          )
        ) else (
          rec x0 x1 x2 x3 x4 (x5 + 4) h323
        )
      ) else (
        some ((0 : Int32), h323)
      )
    ) else (
    if (v2 &&& (63 : Int32)) = 21 then (
      bd (ldI h 0 x0 (x5 + (1 : Int32))) fun v327 =>
      bd2 (f_X0_character x1 v327 x3 h) fun r328 h329 =>
      bd (ldI h329 0 x0 (x5 + (1 : Int32))) fun v331 =>
      gd (isC h329 2 x2) <|
      bd2 (f_X3_character x2 v331 h329) fun r333 h334 =>
      gd (isC h334 2 x2) <|
      bd2 (f_X3_thrown x2 h334) fun r337 h338 =>
      if r337 = r328 then (
        if r328 = 0 then (
          bd (ldL h338 x3 (0 : Int32)) fun v340 =>
          if (lg_cmp v340 r333.toInt64) = 0 then (
            rec x0 x1 x2 x3 x4 (x5 + 4) h338
          ) else (
            some ((0 : Int32), h338)
          )
        ) else (
          rec x0 x1 x2 x3 x4 (x5 + 4) h338
        )
      ) else (
        some ((0 : Int32), h338)
      )
    ) else (
    if (v2 &&& (63 : Int32)) = 22 then (
      bd (ldI h 0 x0 (x5 + (1 : Int32))) fun v342 =>
      bd2 (f_X0_number x1 v342 x3 h) fun r343 h344 =>
      bd (ldI h344 0 x0 (x5 + (1 : Int32))) fun v346 =>
      gd (isC h344 2 x2) <|
      bd2 (f_X3_number x2 v346 h344) fun r348 h349 =>
      gd (isC h349 2 x2) <|
      bd2 (f_X3_thrown x2 h349) fun r352 h353 =>
      if r352 = r343 then (
        if r343 = 0 then (
          bd (ldL h353 x3 (0 : Int32)) fun v355 =>
          if (lg_cmp v355 r348.toInt64) = 0 then (
            rec x0 x1 x2 x3 x4 (x5 + 4) h353
          ) else (
            some ((0 : Int32), h353)
          )
        ) else (
          rec x0 x1 x2 x3 x4 (x5 + 4) h353
        )
      ) else (
        some ((0 : Int32), h353)
      )
    ) else (
    if (v2 &&& (63 : Int32)) = 23 then (
      gd (isC h 0 x1) <|
      bdX (f_X1_printedAgain x1 h) (fun zq365 h359 =>
        none
      ) fun r358 h359 =>
      gd (isC h359 2 x2) <|
      bd2 (f_X3_printedAgain x2 h359) fun r362 h363 =>
      if r358 = r362 then (
        rec x0 x1 x2 x3 x4 (x5 + 4) h363
      ) else (
        some ((0 : Int32), h363)
      )
    ) else (
    if (v2 &&& (63 : Int32)) = 24 then (
      bd2 (f_X0_meanShade x1 x4 h) fun r367 h368 =>
      gd (isC h368 2 x2) <|
      bd2 (f_X3_meanShade x2 h368) fun r371 h372 =>
      gd (isC h372 2 x2) <|
      bd2 (f_X3_thrown x2 h372) fun r375 h376 =>
      if r375 = r367 then (
        if r367 = 0 then (
          bd (ldD h376 x4 (0 : Int32)) fun v378 =>
          if (Op.cmpValue (FP.dcmp v378 r371) .l) = 0 then (
            rec x0 x1 x2 x3 x4 (x5 + 4) h376
          ) else (
            bd (ldD h376 x4 (0 : Int32)) fun v379 =>
            bd (ldD h376 x4 (0 : Int32)) fun v380 =>
            if (Op.cmpValue (FP.dcmp v379 v380) .l) = 0 then (
              some ((0 : Int32), h376)
            ) else (
              if (Op.cmpValue (FP.dcmp r371 r371) .l) = 0 then (
                some ((0 : Int32), h376)
              ) else (
                rec x0 x1 x2 x3 x4 (x5 + 4) h376
              )
            )
          )
        ) else (
          rec x0 x1 x2 x3 x4 (x5 + 4) h376
        )
      ) else (
        some ((0 : Int32), h376)
      )
    ) else (
    if (v2 &&& (63 : Int32)) = 25 then (
      bd2 (f_X0_wasted x1 x4 h) fun r382 h383 =>
      gd (isC h383 2 x2) <|
      bd2 (f_X3_wasted x2 h383) fun r386 h387 =>
      gd (isC h387 2 x2) <|
      bd2 (f_X3_thrown x2 h387) fun r390 h391 =>
      if r390 = r382 then (
        if r382 = 0 then (
          bd (ldD h391 x4 (0 : Int32)) fun v393 =>
          gd (decide ((FP.f2d r386) &&& 0x7fffffffffffffff ≤ 0x7ff0000000000000)) <|
          if (Op.cmpValue (FP.dcmp v393 (FP.f2d r386)) .l) = 0 then (
            rec x0 x1 x2 x3 x4 (x5 + 4) h391
          ) else (
            bd (ldD h391 x4 (0 : Int32)) fun v395 =>
            bd (ldD h391 x4 (0 : Int32)) fun v396 =>
            if (Op.cmpValue (FP.dcmp v395 v396) .l) = 0 then (
              some ((0 : Int32), h391)
            ) else (
              if (Op.cmpValue (FP.fcmp r386 r386) .l) = 0 then (
                some ((0 : Int32), h391)
              ) else (
                rec x0 x1 x2 x3 x4 (x5 + 4) h391
              )
            )
          )
        ) else (
          rec x0 x1 x2 x3 x4 (x5 + 4) h391
        )
      ) else (
        some ((0 : Int32), h391)
      )
    ) else (
    if (v2 &&& (63 : Int32)) = 26 then (
      bd (ldI h 0 x0 (x5 + (1 : Int32))) fun v398 =>
      bd2 (f_X0_feed x1 ((v398.toUInt32 % 65536).toInt32) x3 h) fun r399 h400 =>
      bd (ldI h400 0 x0 (x5 + (1 : Int32))) fun v402 =>
      gd (isC h400 2 x2) <|
      bd2 (f_X3_feed x2 ((v402.toUInt32 % 65536).toInt32) h400) fun r404 h405 =>
      gd (isC h405 2 x2) <|
      bd2 (f_X3_thrown x2 h405) fun r408 h409 =>
      if r408 = r399 then (
        if r399 = 0 then (
          bd (ldL h409 x3 (0 : Int32)) fun v411 =>
          if (lg_cmp v411 r404.toInt64) = 0 then (
            rec x0 x1 x2 x3 x4 (x5 + 4) h409
          ) else (
            some ((0 : Int32), h409)
          )
        ) else (
          rec x0 x1 x2 x3 x4 (x5 + 4) h409
        )
      ) else (
        some ((0 : Int32), h409)
      )
    ) else (
    if (v2 &&& (63 : Int32)) = 27 then (
      bd2 (f_X0_read x1 x3 h) fun r413 h414 =>
      gd (isC h414 2 x2) <|
      bd2 (f_X3_read x2 h414) fun r417 h418 =>
      gd (isC h418 2 x2) <|
      bd2 (f_X3_thrown x2 h418) fun r421 h422 =>
      if r421 = r413 then (
        if r413 = 0 then (
          bd (ldL h422 x3 (0 : Int32)) fun v424 =>
          if (lg_cmp v424 r417.toInt64) = 0 then (
            rec x0 x1 x2 x3 x4 (x5 + 4) h422
          ) else (
            some ((0 : Int32), h422)
          )
        ) else (
          rec x0 x1 x2 x3 x4 (x5 + 4) h422
        )
      ) else (
        some ((0 : Int32), h422)
      )
    ) else (
    if (v2 &&& (63 : Int32)) = 28 then (
      bd2 (f_X0_faultPosition x1 x3 h) fun r426 h427 =>
      gd (isC h427 2 x2) <|
      bd2 (f_X3_faultPosition x2 h427) fun r430 h431 =>
      gd (isC h431 2 x2) <|
      bd2 (f_X3_thrown x2 h431) fun r434 h435 =>
      if r434 = r426 then (
        if r426 = 0 then (
          bd (ldL h435 x3 (0 : Int32)) fun v437 =>
          if (lg_cmp v437 r430.toInt64) = 0 then (
            rec x0 x1 x2 x3 x4 (x5 + 4) h435
          ) else (
            some ((0 : Int32), h435)
          )
        ) else (
          rec x0 x1 x2 x3 x4 (x5 + 4) h435
        )
      ) else (
        some ((0 : Int32), h435)
      )
    ) else (
    if (v2 &&& (63 : Int32)) = 29 then (
      bd (ldI h 0 x0 (x5 + (1 : Int32))) fun v439 =>
      bd (ldI h 0 x0 (x5 + (2 : Int32))) fun v440 =>
      if v440 = 0 then (
        f_law_j2058 rec x0 x1 x2 x3 x4 x5 x1 v439 (0 : Int32) h
      ) else (
        f_law_j2058 rec x0 x1 x2 x3 x4 x5 x1 v439 (1 : Int32) h
      )
    ) else (
    if (v2 &&& (63 : Int32)) = 30 then (
      bd2 (f_X0_undo x1 x3 h) fun r442 h443 =>
      gd (isC h443 2 x2) <|
      bd2 (f_X3_undo x2 h443) fun r446 h447 =>
      gd (isC h447 2 x2) <|
      bd2 (f_X3_thrown x2 h447) fun r450 h451 =>
      if r450 = r442 then (
        if r442 = 0 then (
          bd (ldL h451 x3 (0 : Int32)) fun v453 =>
          if (lg_cmp v453 r446.toInt64) = 0 then (
            rec x0 x1 x2 x3 x4 (x5 + 4) h451
          ) else (
            some ((0 : Int32), h451)
          )
        ) else (
          rec x0 x1 x2 x3 x4 (x5 + 4) h451
        )
      ) else (
        some ((0 : Int32), h451)
      )
    ) else (
    if (v2 &&& (63 : Int32)) = 31 then (
      gd (isC h 0 x1) <|
      bd2 (f_X1_saveSnapshot x1 h) fun r456 h457 =>
      gd (isC h457 2 x2) <|
      bd2 (f_X3_saveSnapshot x2 h457) fun r460 h461 =>
      if r456 = r460 then (
        rec x0 x1 x2 x3 x4 (x5 + 4) h461
      ) else (
        some ((0 : Int32), h461)
      )
    ) else (
    if (v2 &&& (63 : Int32)) = 32 then (
      bd2 (f_X0_restoreSnapshot x1 x3 h) fun r464 h465 =>
      gd (isC h465 2 x2) <|
      bd2 (f_X3_restoreSnapshot x2 h465) fun r468 h469 =>
      gd (isC h469 2 x2) <|
      bd2 (f_X3_thrown x2 h469) fun r472 h473 =>
      if r472 = r464 then (
        if r464 = 0 then (
          bd (ldL h473 x3 (0 : Int32)) fun v475 =>
          if (lg_cmp v475 r468.toInt64) = 0 then (
            rec x0 x1 x2 x3 x4 (x5 + 4) h473
          ) else (
            some ((0 : Int32), h473)
          )
        ) else (
          rec x0 x1 x2 x3 x4 (x5 + 4) h473
        )
      ) else (
        some ((0 : Int32), h473)
      )
    ) else (
    rec x0 x1 x2 x3 x4 (x5 + 4) h
    )))))))))))))))))))))))))))))))))
  )
def f_law_l28 : Nat → Nat → Nat → Nat → Nat → Nat → Int32 → AH → Option (Int32 × AH)
  | 0 => fun _ _ _ _ _ _ _ => none
  | n + 1 => fb_law_l28 (f_law_l28 n) 
theorem w_law_l28 (D : va_G) (l : Launch) (hl : l.stackTraces = false) (as : List Value) (h0 : AH) {r : Int32} {hF : AH} : ∀ (n : Nat) (x0 : Nat) (x1 : Nat) (x2 : Nat) (x3 : Nat) (x4 : Nat) (x5 : Int32) (h : AH), f_law_l28 n x0 x1 x2 x3 x4 x5 h = some (r, hF) → V (G_law D l as h0 hF (oI r)) h 28 [(0, .ref x0), (1, .ref x1), (2, .ref x2), (3, .ref x3), (4, .ref x4), (5, .int x5)] [] := by
  intro n; induction n with
  | zero => intro x0 x1 x2 x3 x4 x5 h e; exact absurd (show (none : Option (Int32 × AH)) = some _ from e) (fun z => nomatch z)
  | succ n IH =>
    intro x0 x1 x2 x3 x4 x5 h e
    have e : fb_law_l28 (f_law_l28 n) x0 x1 x2 x3 x4 x5 h = some (r, hF) := e
    unfold fb_law_l28 at e
    refine v_iload (pc' := 30) hc_law dL_law_28 rfl 5 rfl ?_
    refine v_aload_n (pc' := 31) hc_law dL_law_30 rfl rfl 0 rfl ?_
    refine v_alen (pc' := 32) hc_law dL_law_31 rfl e (fun v1 _ e => ?_)
    refine v_iconst (pc' := 33) (v := 4) hc_law dL_law_32 rfl rfl ?_
    refine v_isub (pc' := 34) hc_law dL_law_33 rfl ?_
    refine v_icmp_gt (pt := 2228) (pf := 37) hc_law dL_law_34 rfl rfl e (fun _ e => ?_) (fun _ e => ?_)
    · refine v_iconst (pc' := 2229) (v := 1) hc_law dL_law_2228 rfl rfl ?_
      obtain ⟨rfl, rfl⟩ := ret_of e
      exact v_zret hc_law rfl (ft := .boolean) rfl dL_law_2229 rfl rfl
    · refine v_aload_n (pc' := 38) hc_law dL_law_37 rfl rfl 0 rfl ?_
      refine v_iload (pc' := 40) hc_law dL_law_38 rfl 5 rfl ?_
      refine v_iald (pc' := 41) hc_law dL_law_40 rfl e (fun v2 _ e => ?_)
      refine v_bipush (pc' := 43) (v := 63) hc_law dL_law_41 rfl rfl ?_
      refine v_iand (pc' := 44) hc_law dL_law_43 rfl ?_
      rcases ite_cs e with ⟨n5, e⟩ | ⟨n5, e⟩
      · refine v_tbl (off := 148) (pt := 192) hc_law dL_law_44 rfl rfl (by rw [n5]; rfl) rfl ?_
        refine v_aload_n (pc' := 193) hc_law dL_law_192 rfl rfl 1 rfl ?_
        refine v_aload_n (pc' := 194) hc_law dL_law_193 rfl rfl 0 rfl ?_
        refine v_iload (pc' := 196) hc_law dL_law_194 rfl 5 rfl ?_
        refine v_iconst (pc' := 197) (v := 1) hc_law dL_law_196 rfl rfl ?_
        refine v_iadd (pc' := 198) hc_law dL_law_197 rfl ?_
        refine v_iald (pc' := 199) hc_law dL_law_198 rfl e (fun v3 _ e => ?_)
        refine v_aload_n (pc' := 200) hc_law dL_law_199 rfl rfl 0 rfl ?_
        refine v_iload (pc' := 202) hc_law dL_law_200 rfl 5 rfl ?_
        refine v_iconst (pc' := 203) (v := 2) hc_law dL_law_202 rfl rfl ?_
        refine v_iadd (pc' := 204) hc_law dL_law_203 rfl ?_
        refine v_iald (pc' := 205) hc_law dL_law_204 rfl e (fun v4 _ e => ?_)
        refine v_if_eq (pt := 212) (pf := 208) hc_law dL_law_205 rfl rfl e (fun _ e => ?_) (fun _ e => ?_)
        · refine v_iconst (pc' := 213) (v := 0) hc_law dL_law_212 rfl rfl ?_
          exact w_law_j213 D l hl as h0 (f_law_l28 n) IH x0 x1 x2 x3 x4 x5 x1 v3 (0 : Int32) h e
        · refine v_iconst (pc' := 209) (v := 1) hc_law dL_law_208 rfl rfl ?_
          refine v_goto (pt := 213) hc_law dL_law_209 rfl ?_
          exact w_law_j213 D l hl as h0 (f_law_l28 n) IH x0 x1 x2 x3 x4 x5 x1 v3 (1 : Int32) h e
      rcases ite_cs e with ⟨n22, e⟩ | ⟨n22, e⟩
      · refine v_tbl (off := 232) (pt := 276) hc_law dL_law_44 rfl rfl (by rw [n22]; rfl) rfl ?_
        refine v_aload_n (pc' := 277) hc_law dL_law_276 rfl rfl 1 rfl ?_
        refine v_aload_n (pc' := 278) hc_law dL_law_277 rfl rfl 0 rfl ?_
        refine v_iload (pc' := 280) hc_law dL_law_278 rfl 5 rfl ?_
        refine v_iconst (pc' := 281) (v := 1) hc_law dL_law_280 rfl rfl ?_
        refine v_iadd (pc' := 282) hc_law dL_law_281 rfl ?_
        refine v_iald (pc' := 283) hc_law dL_law_282 rfl e (fun v6 _ e => ?_)
        refine v_aload_n (pc' := 284) hc_law dL_law_283 rfl rfl 0 rfl ?_
        refine v_iload (pc' := 286) hc_law dL_law_284 rfl 5 rfl ?_
        refine v_iconst (pc' := 287) (v := 2) hc_law dL_law_286 rfl rfl ?_
        refine v_iadd (pc' := 288) hc_law dL_law_287 rfl ?_
        refine v_iald (pc' := 289) hc_law dL_law_288 rfl e (fun v7 _ e => ?_)
        refine v_aload_n (pc' := 290) hc_law dL_law_289 rfl rfl 3 rfl ?_
        obtain ⟨r8, h9, e10, e⟩ := bd2_of e
        refine k_SX (pc' := 293) (x := ⟨"BlockPapersLaw", "blockOf", "(LBlockPapers;II[J)I"⟩) (n := 4) hc_law ho_law (w_X0_blockOf D l hl x1 v6 v7 x3 h e10) (wA_l q1554) q1555 q74 q1556 hy_129 ⟨Nat.le_of_ble_eq_true rfl, Nat.le_of_ble_eq_true rfl⟩ rfl rfl (Nat.le_of_ble_eq_true rfl) dL_law_290 rfl (kS ?_) kN
        refine v_istore (pc' := 295) (lv' := [(6, .int r8), (0, .ref x0), (1, .ref x1), (2, .ref x2), (3, .ref x3), (4, .ref x4), (5, .int x5)]) hc_law dL_law_293 rfl (Nat.le_of_ble_eq_true rfl) rfl ?_
        refine v_aload_n (pc' := 296) hc_law dL_law_295 rfl rfl 3 rfl ?_
        refine v_aload_n (pc' := 297) hc_law dL_law_296 rfl rfl 1 rfl ?_
        refine v_iload (pc' := 299) hc_law dL_law_297 rfl 6 rfl ?_
        refine v_iconst (pc' := 300) (v := 1) hc_law dL_law_299 rfl rfl ?_
        refine v_iadd (pc' := 301) hc_law dL_law_300 rfl ?_
        refine v_iald (pc' := 302) hc_law dL_law_301 rfl e (fun v11 _ e => ?_)
        refine v_aload_n (pc' := 303) hc_law dL_law_302 rfl rfl 1 rfl ?_
        refine v_iload (pc' := 305) hc_law dL_law_303 rfl 6 rfl ?_
        refine v_iconst (pc' := 306) (v := 2) hc_law dL_law_305 rfl rfl ?_
        refine v_iadd (pc' := 307) hc_law dL_law_306 rfl ?_
        refine v_iald (pc' := 308) hc_law dL_law_307 rfl e (fun v12 _ e => ?_)
        obtain ⟨c13, e⟩ := gd_of e
        obtain ⟨r14, h15, e16, e⟩ := bd2_of e
        refine k_V (pc' := 311) (ci := 2) (n := 2) hc_law ho_law rfl c13 (w_X3_blockOf D l hl x2 v11 v12 h9 e16) (wA_l q2355) q2356 (wA_l q2357) q85 q2358 hy_132 ⟨Nat.le_of_ble_eq_true rfl, Nat.le_of_ble_eq_true rfl⟩ rfl rfl (Nat.le_of_ble_eq_true rfl) dL_law_308 rfl (kS ?_) kN
        refine v_istore (pc' := 313) (lv' := [(7, .int r14), (6, .int r8), (0, .ref x0), (1, .ref x1), (2, .ref x2), (3, .ref x3), (4, .ref x4), (5, .int x5)]) hc_law dL_law_311 rfl (Nat.le_of_ble_eq_true rfl) rfl ?_
        refine v_aload_n (pc' := 314) hc_law dL_law_313 rfl rfl 4 rfl ?_
        obtain ⟨c17, e⟩ := gd_of e
        obtain ⟨r18, h19, e20, e⟩ := bd2_of e
        refine k_V (pc' := 317) (ci := 2) (n := 0) hc_law ho_law rfl c17 (w_X3_thrown D l hl x2 h15 e20) (wA_l q2316) q2317 (wA_l q2318) q85 q2319 hy_126 ⟨Nat.le_of_ble_eq_true rfl, Nat.le_of_ble_eq_true rfl⟩ rfl rfl (Nat.le_of_ble_eq_true rfl) dL_law_314 rfl (kS ?_) kN
        refine v_iload (pc' := 319) hc_law dL_law_317 rfl 1 rfl ?_
        refine v_icmp_eq (pt := 324) (pf := 322) hc_law dL_law_319 rfl rfl e (fun _ e => ?_) (fun _ e => ?_)
        · refine v_iload (pc' := 326) hc_law dL_law_324 rfl 1 rfl ?_
          refine v_if_ne (pt := 341) (pf := 329) hc_law dL_law_326 rfl rfl e (fun _ e => ?_) (fun _ e => ?_)
          · refine v_aload_n (pc' := 330) hc_law dL_law_329 rfl rfl 5 rfl ?_
            refine v_iconst (pc' := 331) (v := 0) hc_law dL_law_330 rfl rfl ?_
            refine v_lald (pc' := 332) hc_law dL_law_331 rfl e (fun v21 _ e => ?_)
            refine v_iload (pc' := 334) hc_law dL_law_332 rfl 0 rfl ?_
            refine v_i2l (pc' := 335) hc_law dL_law_334 rfl ?_
            refine v_lcmp (pc' := 336) hc_law dL_law_335 rfl ?_
            refine v_if_eq (pt := 341) (pf := 339) hc_law dL_law_336 rfl rfl e (fun _ e => ?_) (fun _ e => ?_)
            · refine v_goto (pt := 2222) hc_law dL_law_341 rfl ?_
              refine v_iinc (pc' := 2225) (lv' := [(5, .int (x5 + 4)), (7, .int r14), (6, .int r8), (0, .ref x0), (1, .ref x1), (2, .ref x2), (3, .ref x3), (4, .ref x4)]) (v := x5 + 4) hc_law dL_law_2222 rfl 7 rfl rfl (Nat.le_of_ble_eq_true rfl) rfl ?_
              refine v_goto (pt := 28) hc_law dL_law_2225 rfl ?_
              refine v_pick [3, 4, 5, 6, 7, 0] rfl ?_
              exact IH x0 x1 x2 x3 x4 (x5 + 4) h19 e
            · refine v_iconst (pc' := 340) (v := 0) hc_law dL_law_339 rfl rfl ?_
              obtain ⟨rfl, rfl⟩ := ret_of e
              exact v_zret hc_law rfl (ft := .boolean) rfl dL_law_340 rfl rfl
          · refine v_goto (pt := 2222) hc_law dL_law_341 rfl ?_
            refine v_iinc (pc' := 2225) (lv' := [(5, .int (x5 + 4)), (7, .int r14), (6, .int r8), (0, .ref x0), (1, .ref x1), (2, .ref x2), (3, .ref x3), (4, .ref x4)]) (v := x5 + 4) hc_law dL_law_2222 rfl 7 rfl rfl (Nat.le_of_ble_eq_true rfl) rfl ?_
            refine v_goto (pt := 28) hc_law dL_law_2225 rfl ?_
            refine v_pick [3, 4, 5, 6, 7, 0] rfl ?_
            exact IH x0 x1 x2 x3 x4 (x5 + 4) h19 e
        · refine v_iconst (pc' := 323) (v := 0) hc_law dL_law_322 rfl rfl ?_
          obtain ⟨rfl, rfl⟩ := ret_of e
          exact v_zret hc_law rfl (ft := .boolean) rfl dL_law_323 rfl rfl
      rcases ite_cs e with ⟨n37, e⟩ | ⟨n37, e⟩
      · refine v_tbl (off := 300) (pt := 344) hc_law dL_law_44 rfl rfl (by rw [n37]; rfl) rfl ?_
        refine v_aload_n (pc' := 345) hc_law dL_law_344 rfl rfl 1 rfl ?_
        refine v_aload_n (pc' := 346) hc_law dL_law_345 rfl rfl 0 rfl ?_
        refine v_iload (pc' := 348) hc_law dL_law_346 rfl 5 rfl ?_
        refine v_iconst (pc' := 349) (v := 1) hc_law dL_law_348 rfl rfl ?_
        refine v_iadd (pc' := 350) hc_law dL_law_349 rfl ?_
        refine v_iald (pc' := 351) hc_law dL_law_350 rfl e (fun v23 _ e => ?_)
        refine v_aload_n (pc' := 352) hc_law dL_law_351 rfl rfl 3 rfl ?_
        obtain ⟨r24, h25, e26, e⟩ := bd2_of e
        refine k_SX (pc' := 355) (x := ⟨"BlockPapersLaw", "carve", "(LBlockPapers;I[J)I"⟩) (n := 3) hc_law ho_law (w_X0_carve D l hl x1 v23 x3 h e26) (wA_l q1569) q1570 q74 q1571 hy_135 ⟨Nat.le_of_ble_eq_true rfl, Nat.le_of_ble_eq_true rfl⟩ rfl rfl (Nat.le_of_ble_eq_true rfl) dL_law_352 rfl (kS ?_) kN
        refine v_istore (pc' := 357) (lv' := [(6, .int r24), (0, .ref x0), (1, .ref x1), (2, .ref x2), (3, .ref x3), (4, .ref x4), (5, .int x5)]) hc_law dL_law_355 rfl (Nat.le_of_ble_eq_true rfl) rfl ?_
        refine v_aload_n (pc' := 358) hc_law dL_law_357 rfl rfl 3 rfl ?_
        refine v_aload_n (pc' := 359) hc_law dL_law_358 rfl rfl 1 rfl ?_
        refine v_iload (pc' := 361) hc_law dL_law_359 rfl 6 rfl ?_
        refine v_iconst (pc' := 362) (v := 1) hc_law dL_law_361 rfl rfl ?_
        refine v_iadd (pc' := 363) hc_law dL_law_362 rfl ?_
        refine v_iald (pc' := 364) hc_law dL_law_363 rfl e (fun v27 _ e => ?_)
        obtain ⟨c28, e⟩ := gd_of e
        obtain ⟨r29, h30, e31, e⟩ := bd2_of e
        refine k_V (pc' := 367) (ci := 2) (n := 1) hc_law ho_law rfl c28 (w_X3_carve D l hl x2 v27 h25 e31) (wA_l q2367) q2368 (wA_l q2369) q85 q2370 hy_137 ⟨Nat.le_of_ble_eq_true rfl, Nat.le_of_ble_eq_true rfl⟩ rfl rfl (Nat.le_of_ble_eq_true rfl) dL_law_364 rfl (kS ?_) kN
        refine v_istore (pc' := 369) (lv' := [(7, .int r29), (6, .int r24), (0, .ref x0), (1, .ref x1), (2, .ref x2), (3, .ref x3), (4, .ref x4), (5, .int x5)]) hc_law dL_law_367 rfl (Nat.le_of_ble_eq_true rfl) rfl ?_
        refine v_aload_n (pc' := 370) hc_law dL_law_369 rfl rfl 4 rfl ?_
        obtain ⟨c32, e⟩ := gd_of e
        obtain ⟨r33, h34, e35, e⟩ := bd2_of e
        refine k_V (pc' := 373) (ci := 2) (n := 0) hc_law ho_law rfl c32 (w_X3_thrown D l hl x2 h30 e35) (wA_l q2316) q2317 (wA_l q2318) q85 q2319 hy_126 ⟨Nat.le_of_ble_eq_true rfl, Nat.le_of_ble_eq_true rfl⟩ rfl rfl (Nat.le_of_ble_eq_true rfl) dL_law_370 rfl (kS ?_) kN
        refine v_iload (pc' := 375) hc_law dL_law_373 rfl 1 rfl ?_
        refine v_icmp_eq (pt := 380) (pf := 378) hc_law dL_law_375 rfl rfl e (fun _ e => ?_) (fun _ e => ?_)
        · refine v_iload (pc' := 382) hc_law dL_law_380 rfl 1 rfl ?_
          refine v_if_ne (pt := 397) (pf := 385) hc_law dL_law_382 rfl rfl e (fun _ e => ?_) (fun _ e => ?_)
          · refine v_aload_n (pc' := 386) hc_law dL_law_385 rfl rfl 5 rfl ?_
            refine v_iconst (pc' := 387) (v := 0) hc_law dL_law_386 rfl rfl ?_
            refine v_lald (pc' := 388) hc_law dL_law_387 rfl e (fun v36 _ e => ?_)
            refine v_iload (pc' := 390) hc_law dL_law_388 rfl 0 rfl ?_
            refine v_i2l (pc' := 391) hc_law dL_law_390 rfl ?_
            refine v_lcmp (pc' := 392) hc_law dL_law_391 rfl ?_
            refine v_if_eq (pt := 397) (pf := 395) hc_law dL_law_392 rfl rfl e (fun _ e => ?_) (fun _ e => ?_)
            · refine v_goto (pt := 2222) hc_law dL_law_397 rfl ?_
              refine v_iinc (pc' := 2225) (lv' := [(5, .int (x5 + 4)), (7, .int r29), (6, .int r24), (0, .ref x0), (1, .ref x1), (2, .ref x2), (3, .ref x3), (4, .ref x4)]) (v := x5 + 4) hc_law dL_law_2222 rfl 7 rfl rfl (Nat.le_of_ble_eq_true rfl) rfl ?_
              refine v_goto (pt := 28) hc_law dL_law_2225 rfl ?_
              refine v_pick [3, 4, 5, 6, 7, 0] rfl ?_
              exact IH x0 x1 x2 x3 x4 (x5 + 4) h34 e
            · refine v_iconst (pc' := 396) (v := 0) hc_law dL_law_395 rfl rfl ?_
              obtain ⟨rfl, rfl⟩ := ret_of e
              exact v_zret hc_law rfl (ft := .boolean) rfl dL_law_396 rfl rfl
          · refine v_goto (pt := 2222) hc_law dL_law_397 rfl ?_
            refine v_iinc (pc' := 2225) (lv' := [(5, .int (x5 + 4)), (7, .int r29), (6, .int r24), (0, .ref x0), (1, .ref x1), (2, .ref x2), (3, .ref x3), (4, .ref x4)]) (v := x5 + 4) hc_law dL_law_2222 rfl 7 rfl rfl (Nat.le_of_ble_eq_true rfl) rfl ?_
            refine v_goto (pt := 28) hc_law dL_law_2225 rfl ?_
            refine v_pick [3, 4, 5, 6, 7, 0] rfl ?_
            exact IH x0 x1 x2 x3 x4 (x5 + 4) h34 e
        · refine v_iconst (pc' := 379) (v := 0) hc_law dL_law_378 rfl rfl ?_
          obtain ⟨rfl, rfl⟩ := ret_of e
          exact v_zret hc_law rfl (ft := .boolean) rfl dL_law_379 rfl rfl
      rcases ite_cs e with ⟨n56, e⟩ | ⟨n56, e⟩
      · refine v_tbl (off := 356) (pt := 400) hc_law dL_law_44 rfl rfl (by rw [n56]; rfl) rfl ?_
        refine v_aload_n (pc' := 401) hc_law dL_law_400 rfl rfl 1 rfl ?_
        refine v_aload_n (pc' := 402) hc_law dL_law_401 rfl rfl 0 rfl ?_
        refine v_iload (pc' := 404) hc_law dL_law_402 rfl 5 rfl ?_
        refine v_iconst (pc' := 405) (v := 1) hc_law dL_law_404 rfl rfl ?_
        refine v_iadd (pc' := 406) hc_law dL_law_405 rfl ?_
        refine v_iald (pc' := 407) hc_law dL_law_406 rfl e (fun v38 _ e => ?_)
        refine v_aload_n (pc' := 408) hc_law dL_law_407 rfl rfl 0 rfl ?_
        refine v_iload (pc' := 410) hc_law dL_law_408 rfl 5 rfl ?_
        refine v_iconst (pc' := 411) (v := 2) hc_law dL_law_410 rfl rfl ?_
        refine v_iadd (pc' := 412) hc_law dL_law_411 rfl ?_
        refine v_iald (pc' := 413) hc_law dL_law_412 rfl e (fun v39 _ e => ?_)
        refine v_aload_n (pc' := 414) hc_law dL_law_413 rfl rfl 0 rfl ?_
        refine v_iload (pc' := 416) hc_law dL_law_414 rfl 5 rfl ?_
        refine v_iconst (pc' := 417) (v := 3) hc_law dL_law_416 rfl rfl ?_
        refine v_iadd (pc' := 418) hc_law dL_law_417 rfl ?_
        refine v_iald (pc' := 419) hc_law dL_law_418 rfl e (fun v40 _ e => ?_)
        refine v_aload_n (pc' := 420) hc_law dL_law_419 rfl rfl 3 rfl ?_
        obtain ⟨r41, h42, e43, e⟩ := bd2_of e
        refine k_SX (pc' := 423) (x := ⟨"BlockPapersLaw", "ink", "(LBlockPapers;III[J)I"⟩) (n := 5) hc_law ho_law (w_X0_ink D l hl x1 v38 v39 v40 x3 h e43) (wA_l q1580) q1581 q74 q1582 hy_139 ⟨Nat.le_of_ble_eq_true rfl, Nat.le_of_ble_eq_true rfl⟩ rfl rfl (Nat.le_of_ble_eq_true rfl) dL_law_420 rfl (kS ?_) kN
        refine v_istore (pc' := 425) (lv' := [(6, .int r41), (0, .ref x0), (1, .ref x1), (2, .ref x2), (3, .ref x3), (4, .ref x4), (5, .int x5)]) hc_law dL_law_423 rfl (Nat.le_of_ble_eq_true rfl) rfl ?_
        refine v_aload_n (pc' := 426) hc_law dL_law_425 rfl rfl 3 rfl ?_
        refine v_aload_n (pc' := 427) hc_law dL_law_426 rfl rfl 1 rfl ?_
        refine v_iload (pc' := 429) hc_law dL_law_427 rfl 6 rfl ?_
        refine v_iconst (pc' := 430) (v := 1) hc_law dL_law_429 rfl rfl ?_
        refine v_iadd (pc' := 431) hc_law dL_law_430 rfl ?_
        refine v_iald (pc' := 432) hc_law dL_law_431 rfl e (fun v44 _ e => ?_)
        refine v_aload_n (pc' := 433) hc_law dL_law_432 rfl rfl 1 rfl ?_
        refine v_iload (pc' := 435) hc_law dL_law_433 rfl 6 rfl ?_
        refine v_iconst (pc' := 436) (v := 2) hc_law dL_law_435 rfl rfl ?_
        refine v_iadd (pc' := 437) hc_law dL_law_436 rfl ?_
        refine v_iald (pc' := 438) hc_law dL_law_437 rfl e (fun v45 _ e => ?_)
        refine v_aload_n (pc' := 439) hc_law dL_law_438 rfl rfl 1 rfl ?_
        refine v_iload (pc' := 441) hc_law dL_law_439 rfl 6 rfl ?_
        refine v_iconst (pc' := 442) (v := 3) hc_law dL_law_441 rfl rfl ?_
        refine v_iadd (pc' := 443) hc_law dL_law_442 rfl ?_
        refine v_iald (pc' := 444) hc_law dL_law_443 rfl e (fun v46 _ e => ?_)
        obtain ⟨c47, e⟩ := gd_of e
        obtain ⟨r48, h49, e50, e⟩ := bd2_of e
        refine k_V (pc' := 447) (ci := 2) (n := 3) hc_law ho_law rfl c47 (w_X3_ink D l hl x2 v44 v45 v46 h42 e50) (wA_l q2375) q2376 (wA_l q2377) q85 q2378 hy_141 ⟨Nat.le_of_ble_eq_true rfl, Nat.le_of_ble_eq_true rfl⟩ rfl rfl (Nat.le_of_ble_eq_true rfl) dL_law_444 rfl (kS ?_) kN
        refine v_istore (pc' := 449) (lv' := [(7, .int r48), (6, .int r41), (0, .ref x0), (1, .ref x1), (2, .ref x2), (3, .ref x3), (4, .ref x4), (5, .int x5)]) hc_law dL_law_447 rfl (Nat.le_of_ble_eq_true rfl) rfl ?_
        refine v_aload_n (pc' := 450) hc_law dL_law_449 rfl rfl 4 rfl ?_
        obtain ⟨c51, e⟩ := gd_of e
        obtain ⟨r52, h53, e54, e⟩ := bd2_of e
        refine k_V (pc' := 453) (ci := 2) (n := 0) hc_law ho_law rfl c51 (w_X3_thrown D l hl x2 h49 e54) (wA_l q2316) q2317 (wA_l q2318) q85 q2319 hy_126 ⟨Nat.le_of_ble_eq_true rfl, Nat.le_of_ble_eq_true rfl⟩ rfl rfl (Nat.le_of_ble_eq_true rfl) dL_law_450 rfl (kS ?_) kN
        refine v_iload (pc' := 455) hc_law dL_law_453 rfl 1 rfl ?_
        refine v_icmp_eq (pt := 460) (pf := 458) hc_law dL_law_455 rfl rfl e (fun _ e => ?_) (fun _ e => ?_)
        · refine v_iload (pc' := 462) hc_law dL_law_460 rfl 1 rfl ?_
          refine v_if_ne (pt := 477) (pf := 465) hc_law dL_law_462 rfl rfl e (fun _ e => ?_) (fun _ e => ?_)
          · refine v_aload_n (pc' := 466) hc_law dL_law_465 rfl rfl 5 rfl ?_
            refine v_iconst (pc' := 467) (v := 0) hc_law dL_law_466 rfl rfl ?_
            refine v_lald (pc' := 468) hc_law dL_law_467 rfl e (fun v55 _ e => ?_)
            refine v_iload (pc' := 470) hc_law dL_law_468 rfl 0 rfl ?_
            refine v_i2l (pc' := 471) hc_law dL_law_470 rfl ?_
            refine v_lcmp (pc' := 472) hc_law dL_law_471 rfl ?_
            refine v_if_eq (pt := 477) (pf := 475) hc_law dL_law_472 rfl rfl e (fun _ e => ?_) (fun _ e => ?_)
            · refine v_goto (pt := 2222) hc_law dL_law_477 rfl ?_
              refine v_iinc (pc' := 2225) (lv' := [(5, .int (x5 + 4)), (7, .int r48), (6, .int r41), (0, .ref x0), (1, .ref x1), (2, .ref x2), (3, .ref x3), (4, .ref x4)]) (v := x5 + 4) hc_law dL_law_2222 rfl 7 rfl rfl (Nat.le_of_ble_eq_true rfl) rfl ?_
              refine v_goto (pt := 28) hc_law dL_law_2225 rfl ?_
              refine v_pick [3, 4, 5, 6, 7, 0] rfl ?_
              exact IH x0 x1 x2 x3 x4 (x5 + 4) h53 e
            · refine v_iconst (pc' := 476) (v := 0) hc_law dL_law_475 rfl rfl ?_
              obtain ⟨rfl, rfl⟩ := ret_of e
              exact v_zret hc_law rfl (ft := .boolean) rfl dL_law_476 rfl rfl
          · refine v_goto (pt := 2222) hc_law dL_law_477 rfl ?_
            refine v_iinc (pc' := 2225) (lv' := [(5, .int (x5 + 4)), (7, .int r48), (6, .int r41), (0, .ref x0), (1, .ref x1), (2, .ref x2), (3, .ref x3), (4, .ref x4)]) (v := x5 + 4) hc_law dL_law_2222 rfl 7 rfl rfl (Nat.le_of_ble_eq_true rfl) rfl ?_
            refine v_goto (pt := 28) hc_law dL_law_2225 rfl ?_
            refine v_pick [3, 4, 5, 6, 7, 0] rfl ?_
            exact IH x0 x1 x2 x3 x4 (x5 + 4) h53 e
        · refine v_iconst (pc' := 459) (v := 0) hc_law dL_law_458 rfl rfl ?_
          obtain ⟨rfl, rfl⟩ := ret_of e
          exact v_zret hc_law rfl (ft := .boolean) rfl dL_law_459 rfl rfl
      rcases ite_cs e with ⟨n73, e⟩ | ⟨n73, e⟩
      · refine v_tbl (off := 436) (pt := 480) hc_law dL_law_44 rfl rfl (by rw [n73]; rfl) rfl ?_
        refine v_aload_n (pc' := 481) hc_law dL_law_480 rfl rfl 1 rfl ?_
        refine v_aload_n (pc' := 482) hc_law dL_law_481 rfl rfl 0 rfl ?_
        refine v_iload (pc' := 484) hc_law dL_law_482 rfl 5 rfl ?_
        refine v_iconst (pc' := 485) (v := 1) hc_law dL_law_484 rfl rfl ?_
        refine v_iadd (pc' := 486) hc_law dL_law_485 rfl ?_
        refine v_iald (pc' := 487) hc_law dL_law_486 rfl e (fun v57 _ e => ?_)
        refine v_aload_n (pc' := 488) hc_law dL_law_487 rfl rfl 0 rfl ?_
        refine v_iload (pc' := 490) hc_law dL_law_488 rfl 5 rfl ?_
        refine v_iconst (pc' := 491) (v := 2) hc_law dL_law_490 rfl rfl ?_
        refine v_iadd (pc' := 492) hc_law dL_law_491 rfl ?_
        refine v_iald (pc' := 493) hc_law dL_law_492 rfl e (fun v58 _ e => ?_)
        refine v_aload_n (pc' := 494) hc_law dL_law_493 rfl rfl 3 rfl ?_
        obtain ⟨r59, h60, e61, e⟩ := bd2_of e
        refine k_SX (pc' := 497) (x := ⟨"BlockPapersLaw", "inkOf", "(LBlockPapers;II[J)I"⟩) (n := 4) hc_law ho_law (w_X0_inkOf D l hl x1 v57 v58 x3 h e61) (wA_l q1589) q1590 q74 q1591 hy_143 ⟨Nat.le_of_ble_eq_true rfl, Nat.le_of_ble_eq_true rfl⟩ rfl rfl (Nat.le_of_ble_eq_true rfl) dL_law_494 rfl (kS ?_) kN
        refine v_istore (pc' := 499) (lv' := [(6, .int r59), (0, .ref x0), (1, .ref x1), (2, .ref x2), (3, .ref x3), (4, .ref x4), (5, .int x5)]) hc_law dL_law_497 rfl (Nat.le_of_ble_eq_true rfl) rfl ?_
        refine v_aload_n (pc' := 500) hc_law dL_law_499 rfl rfl 3 rfl ?_
        refine v_aload_n (pc' := 501) hc_law dL_law_500 rfl rfl 1 rfl ?_
        refine v_iload (pc' := 503) hc_law dL_law_501 rfl 6 rfl ?_
        refine v_iconst (pc' := 504) (v := 1) hc_law dL_law_503 rfl rfl ?_
        refine v_iadd (pc' := 505) hc_law dL_law_504 rfl ?_
        refine v_iald (pc' := 506) hc_law dL_law_505 rfl e (fun v62 _ e => ?_)
        refine v_aload_n (pc' := 507) hc_law dL_law_506 rfl rfl 1 rfl ?_
        refine v_iload (pc' := 509) hc_law dL_law_507 rfl 6 rfl ?_
        refine v_iconst (pc' := 510) (v := 2) hc_law dL_law_509 rfl rfl ?_
        refine v_iadd (pc' := 511) hc_law dL_law_510 rfl ?_
        refine v_iald (pc' := 512) hc_law dL_law_511 rfl e (fun v63 _ e => ?_)
        obtain ⟨c64, e⟩ := gd_of e
        obtain ⟨r65, h66, e67, e⟩ := bd2_of e
        refine k_V (pc' := 515) (ci := 2) (n := 2) hc_law ho_law rfl c64 (w_X3_inkOf D l hl x2 v62 v63 h60 e67) (wA_l q2383) q2384 (wA_l q2385) q85 q2386 hy_146 ⟨Nat.le_of_ble_eq_true rfl, Nat.le_of_ble_eq_true rfl⟩ rfl rfl (Nat.le_of_ble_eq_true rfl) dL_law_512 rfl (kS ?_) kN
        refine v_istore (pc' := 517) (lv' := [(7, .int r65), (6, .int r59), (0, .ref x0), (1, .ref x1), (2, .ref x2), (3, .ref x3), (4, .ref x4), (5, .int x5)]) hc_law dL_law_515 rfl (Nat.le_of_ble_eq_true rfl) rfl ?_
        refine v_aload_n (pc' := 518) hc_law dL_law_517 rfl rfl 4 rfl ?_
        obtain ⟨c68, e⟩ := gd_of e
        obtain ⟨r69, h70, e71, e⟩ := bd2_of e
        refine k_V (pc' := 521) (ci := 2) (n := 0) hc_law ho_law rfl c68 (w_X3_thrown D l hl x2 h66 e71) (wA_l q2316) q2317 (wA_l q2318) q85 q2319 hy_126 ⟨Nat.le_of_ble_eq_true rfl, Nat.le_of_ble_eq_true rfl⟩ rfl rfl (Nat.le_of_ble_eq_true rfl) dL_law_518 rfl (kS ?_) kN
        refine v_iload (pc' := 523) hc_law dL_law_521 rfl 1 rfl ?_
        refine v_icmp_eq (pt := 528) (pf := 526) hc_law dL_law_523 rfl rfl e (fun _ e => ?_) (fun _ e => ?_)
        · refine v_iload (pc' := 530) hc_law dL_law_528 rfl 1 rfl ?_
          refine v_if_ne (pt := 545) (pf := 533) hc_law dL_law_530 rfl rfl e (fun _ e => ?_) (fun _ e => ?_)
          · refine v_aload_n (pc' := 534) hc_law dL_law_533 rfl rfl 5 rfl ?_
            refine v_iconst (pc' := 535) (v := 0) hc_law dL_law_534 rfl rfl ?_
            refine v_lald (pc' := 536) hc_law dL_law_535 rfl e (fun v72 _ e => ?_)
            refine v_iload (pc' := 538) hc_law dL_law_536 rfl 0 rfl ?_
            refine v_i2l (pc' := 539) hc_law dL_law_538 rfl ?_
            refine v_lcmp (pc' := 540) hc_law dL_law_539 rfl ?_
            refine v_if_eq (pt := 545) (pf := 543) hc_law dL_law_540 rfl rfl e (fun _ e => ?_) (fun _ e => ?_)
            · refine v_goto (pt := 2222) hc_law dL_law_545 rfl ?_
              refine v_iinc (pc' := 2225) (lv' := [(5, .int (x5 + 4)), (7, .int r65), (6, .int r59), (0, .ref x0), (1, .ref x1), (2, .ref x2), (3, .ref x3), (4, .ref x4)]) (v := x5 + 4) hc_law dL_law_2222 rfl 7 rfl rfl (Nat.le_of_ble_eq_true rfl) rfl ?_
              refine v_goto (pt := 28) hc_law dL_law_2225 rfl ?_
              refine v_pick [3, 4, 5, 6, 7, 0] rfl ?_
              exact IH x0 x1 x2 x3 x4 (x5 + 4) h70 e
            · refine v_iconst (pc' := 544) (v := 0) hc_law dL_law_543 rfl rfl ?_
              obtain ⟨rfl, rfl⟩ := ret_of e
              exact v_zret hc_law rfl (ft := .boolean) rfl dL_law_544 rfl rfl
          · refine v_goto (pt := 2222) hc_law dL_law_545 rfl ?_
            refine v_iinc (pc' := 2225) (lv' := [(5, .int (x5 + 4)), (7, .int r65), (6, .int r59), (0, .ref x0), (1, .ref x1), (2, .ref x2), (3, .ref x3), (4, .ref x4)]) (v := x5 + 4) hc_law dL_law_2222 rfl 7 rfl rfl (Nat.le_of_ble_eq_true rfl) rfl ?_
            refine v_goto (pt := 28) hc_law dL_law_2225 rfl ?_
            refine v_pick [3, 4, 5, 6, 7, 0] rfl ?_
            exact IH x0 x1 x2 x3 x4 (x5 + 4) h70 e
        · refine v_iconst (pc' := 527) (v := 0) hc_law dL_law_526 rfl rfl ?_
          obtain ⟨rfl, rfl⟩ := ret_of e
          exact v_zret hc_law rfl (ft := .boolean) rfl dL_law_527 rfl rfl
      rcases ite_cs e with ⟨n92, e⟩ | ⟨n92, e⟩
      · refine v_tbl (off := 504) (pt := 548) hc_law dL_law_44 rfl rfl (by rw [n92]; rfl) rfl ?_
        refine v_aload_n (pc' := 549) hc_law dL_law_548 rfl rfl 1 rfl ?_
        refine v_aload_n (pc' := 550) hc_law dL_law_549 rfl rfl 0 rfl ?_
        refine v_iload (pc' := 552) hc_law dL_law_550 rfl 5 rfl ?_
        refine v_iconst (pc' := 553) (v := 1) hc_law dL_law_552 rfl rfl ?_
        refine v_iadd (pc' := 554) hc_law dL_law_553 rfl ?_
        refine v_iald (pc' := 555) hc_law dL_law_554 rfl e (fun v74 _ e => ?_)
        refine v_aload_n (pc' := 556) hc_law dL_law_555 rfl rfl 0 rfl ?_
        refine v_iload (pc' := 558) hc_law dL_law_556 rfl 5 rfl ?_
        refine v_iconst (pc' := 559) (v := 2) hc_law dL_law_558 rfl rfl ?_
        refine v_iadd (pc' := 560) hc_law dL_law_559 rfl ?_
        refine v_iald (pc' := 561) hc_law dL_law_560 rfl e (fun v75 _ e => ?_)
        refine v_aload_n (pc' := 562) hc_law dL_law_561 rfl rfl 0 rfl ?_
        refine v_iload (pc' := 564) hc_law dL_law_562 rfl 5 rfl ?_
        refine v_iconst (pc' := 565) (v := 3) hc_law dL_law_564 rfl rfl ?_
        refine v_iadd (pc' := 566) hc_law dL_law_565 rfl ?_
        refine v_iald (pc' := 567) hc_law dL_law_566 rfl e (fun v76 _ e => ?_)
        refine v_aload_n (pc' := 568) hc_law dL_law_567 rfl rfl 3 rfl ?_
        obtain ⟨r77, h78, e79, e⟩ := bd2_of e
        refine k_SX (pc' := 571) (x := ⟨"BlockPapersLaw", "mix", "(LBlockPapers;III[J)I"⟩) (n := 5) hc_law ho_law (w_X0_mix D l hl x1 v74 v75 v76 x3 h e79) (wA_l q1597) q1598 q74 q1599 hy_148 ⟨Nat.le_of_ble_eq_true rfl, Nat.le_of_ble_eq_true rfl⟩ rfl rfl (Nat.le_of_ble_eq_true rfl) dL_law_568 rfl (kS ?_) kN
        refine v_istore (pc' := 573) (lv' := [(6, .int r77), (0, .ref x0), (1, .ref x1), (2, .ref x2), (3, .ref x3), (4, .ref x4), (5, .int x5)]) hc_law dL_law_571 rfl (Nat.le_of_ble_eq_true rfl) rfl ?_
        refine v_aload_n (pc' := 574) hc_law dL_law_573 rfl rfl 3 rfl ?_
        refine v_aload_n (pc' := 575) hc_law dL_law_574 rfl rfl 1 rfl ?_
        refine v_iload (pc' := 577) hc_law dL_law_575 rfl 6 rfl ?_
        refine v_iconst (pc' := 578) (v := 1) hc_law dL_law_577 rfl rfl ?_
        refine v_iadd (pc' := 579) hc_law dL_law_578 rfl ?_
        refine v_iald (pc' := 580) hc_law dL_law_579 rfl e (fun v80 _ e => ?_)
        refine v_aload_n (pc' := 581) hc_law dL_law_580 rfl rfl 1 rfl ?_
        refine v_iload (pc' := 583) hc_law dL_law_581 rfl 6 rfl ?_
        refine v_iconst (pc' := 584) (v := 2) hc_law dL_law_583 rfl rfl ?_
        refine v_iadd (pc' := 585) hc_law dL_law_584 rfl ?_
        refine v_iald (pc' := 586) hc_law dL_law_585 rfl e (fun v81 _ e => ?_)
        refine v_aload_n (pc' := 587) hc_law dL_law_586 rfl rfl 1 rfl ?_
        refine v_iload (pc' := 589) hc_law dL_law_587 rfl 6 rfl ?_
        refine v_iconst (pc' := 590) (v := 3) hc_law dL_law_589 rfl rfl ?_
        refine v_iadd (pc' := 591) hc_law dL_law_590 rfl ?_
        refine v_iald (pc' := 592) hc_law dL_law_591 rfl e (fun v82 _ e => ?_)
        obtain ⟨c83, e⟩ := gd_of e
        obtain ⟨r84, h85, e86, e⟩ := bd2_of e
        refine k_V (pc' := 595) (ci := 2) (n := 3) hc_law ho_law rfl c83 (w_X3_mix D l hl x2 v80 v81 v82 h78 e86) (wA_l q2395) q2396 (wA_l q2397) q85 q2398 hy_150 ⟨Nat.le_of_ble_eq_true rfl, Nat.le_of_ble_eq_true rfl⟩ rfl rfl (Nat.le_of_ble_eq_true rfl) dL_law_592 rfl (kS ?_) kN
        refine v_istore (pc' := 597) (lv' := [(7, .int r84), (6, .int r77), (0, .ref x0), (1, .ref x1), (2, .ref x2), (3, .ref x3), (4, .ref x4), (5, .int x5)]) hc_law dL_law_595 rfl (Nat.le_of_ble_eq_true rfl) rfl ?_
        refine v_aload_n (pc' := 598) hc_law dL_law_597 rfl rfl 4 rfl ?_
        obtain ⟨c87, e⟩ := gd_of e
        obtain ⟨r88, h89, e90, e⟩ := bd2_of e
        refine k_V (pc' := 601) (ci := 2) (n := 0) hc_law ho_law rfl c87 (w_X3_thrown D l hl x2 h85 e90) (wA_l q2316) q2317 (wA_l q2318) q85 q2319 hy_126 ⟨Nat.le_of_ble_eq_true rfl, Nat.le_of_ble_eq_true rfl⟩ rfl rfl (Nat.le_of_ble_eq_true rfl) dL_law_598 rfl (kS ?_) kN
        refine v_iload (pc' := 603) hc_law dL_law_601 rfl 1 rfl ?_
        refine v_icmp_eq (pt := 608) (pf := 606) hc_law dL_law_603 rfl rfl e (fun _ e => ?_) (fun _ e => ?_)
        · refine v_iload (pc' := 610) hc_law dL_law_608 rfl 1 rfl ?_
          refine v_if_ne (pt := 625) (pf := 613) hc_law dL_law_610 rfl rfl e (fun _ e => ?_) (fun _ e => ?_)
          · refine v_aload_n (pc' := 614) hc_law dL_law_613 rfl rfl 5 rfl ?_
            refine v_iconst (pc' := 615) (v := 0) hc_law dL_law_614 rfl rfl ?_
            refine v_lald (pc' := 616) hc_law dL_law_615 rfl e (fun v91 _ e => ?_)
            refine v_iload (pc' := 618) hc_law dL_law_616 rfl 0 rfl ?_
            refine v_i2l (pc' := 619) hc_law dL_law_618 rfl ?_
            refine v_lcmp (pc' := 620) hc_law dL_law_619 rfl ?_
            refine v_if_eq (pt := 625) (pf := 623) hc_law dL_law_620 rfl rfl e (fun _ e => ?_) (fun _ e => ?_)
            · refine v_goto (pt := 2222) hc_law dL_law_625 rfl ?_
              refine v_iinc (pc' := 2225) (lv' := [(5, .int (x5 + 4)), (7, .int r84), (6, .int r77), (0, .ref x0), (1, .ref x1), (2, .ref x2), (3, .ref x3), (4, .ref x4)]) (v := x5 + 4) hc_law dL_law_2222 rfl 7 rfl rfl (Nat.le_of_ble_eq_true rfl) rfl ?_
              refine v_goto (pt := 28) hc_law dL_law_2225 rfl ?_
              refine v_pick [3, 4, 5, 6, 7, 0] rfl ?_
              exact IH x0 x1 x2 x3 x4 (x5 + 4) h89 e
            · refine v_iconst (pc' := 624) (v := 0) hc_law dL_law_623 rfl rfl ?_
              obtain ⟨rfl, rfl⟩ := ret_of e
              exact v_zret hc_law rfl (ft := .boolean) rfl dL_law_624 rfl rfl
          · refine v_goto (pt := 2222) hc_law dL_law_625 rfl ?_
            refine v_iinc (pc' := 2225) (lv' := [(5, .int (x5 + 4)), (7, .int r84), (6, .int r77), (0, .ref x0), (1, .ref x1), (2, .ref x2), (3, .ref x3), (4, .ref x4)]) (v := x5 + 4) hc_law dL_law_2222 rfl 7 rfl rfl (Nat.le_of_ble_eq_true rfl) rfl ?_
            refine v_goto (pt := 28) hc_law dL_law_2225 rfl ?_
            refine v_pick [3, 4, 5, 6, 7, 0] rfl ?_
            exact IH x0 x1 x2 x3 x4 (x5 + 4) h89 e
        · refine v_iconst (pc' := 607) (v := 0) hc_law dL_law_606 rfl rfl ?_
          obtain ⟨rfl, rfl⟩ := ret_of e
          exact v_zret hc_law rfl (ft := .boolean) rfl dL_law_607 rfl rfl
      rcases ite_cs e with ⟨n111, e⟩ | ⟨n111, e⟩
      · refine v_tbl (off := 584) (pt := 628) hc_law dL_law_44 rfl rfl (by rw [n111]; rfl) rfl ?_
        refine v_aload_n (pc' := 629) hc_law dL_law_628 rfl rfl 1 rfl ?_
        refine v_aload_n (pc' := 630) hc_law dL_law_629 rfl rfl 0 rfl ?_
        refine v_iload (pc' := 632) hc_law dL_law_630 rfl 5 rfl ?_
        refine v_iconst (pc' := 633) (v := 1) hc_law dL_law_632 rfl rfl ?_
        refine v_iadd (pc' := 634) hc_law dL_law_633 rfl ?_
        refine v_iald (pc' := 635) hc_law dL_law_634 rfl e (fun v93 _ e => ?_)
        refine v_aload_n (pc' := 636) hc_law dL_law_635 rfl rfl 0 rfl ?_
        refine v_iload (pc' := 638) hc_law dL_law_636 rfl 5 rfl ?_
        refine v_iconst (pc' := 639) (v := 2) hc_law dL_law_638 rfl rfl ?_
        refine v_iadd (pc' := 640) hc_law dL_law_639 rfl ?_
        refine v_iald (pc' := 641) hc_law dL_law_640 rfl e (fun v94 _ e => ?_)
        refine v_aload_n (pc' := 642) hc_law dL_law_641 rfl rfl 0 rfl ?_
        refine v_iload (pc' := 644) hc_law dL_law_642 rfl 5 rfl ?_
        refine v_iconst (pc' := 645) (v := 3) hc_law dL_law_644 rfl rfl ?_
        refine v_iadd (pc' := 646) hc_law dL_law_645 rfl ?_
        refine v_iald (pc' := 647) hc_law dL_law_646 rfl e (fun v95 _ e => ?_)
        refine v_aload_n (pc' := 648) hc_law dL_law_647 rfl rfl 3 rfl ?_
        obtain ⟨r96, h97, e98, e⟩ := bd2_of e
        refine k_SX (pc' := 651) (x := ⟨"BlockPapersLaw", "print", "(LBlockPapers;III[J)I"⟩) (n := 5) hc_law ho_law (w_X0_print D l hl x1 v93 v94 v95 x3 h e98) (wA_l q1605) q1606 q74 q1607 hy_152 ⟨Nat.le_of_ble_eq_true rfl, Nat.le_of_ble_eq_true rfl⟩ rfl rfl (Nat.le_of_ble_eq_true rfl) dL_law_648 rfl (kS ?_) kN
        refine v_istore (pc' := 653) (lv' := [(6, .int r96), (0, .ref x0), (1, .ref x1), (2, .ref x2), (3, .ref x3), (4, .ref x4), (5, .int x5)]) hc_law dL_law_651 rfl (Nat.le_of_ble_eq_true rfl) rfl ?_
        refine v_aload_n (pc' := 654) hc_law dL_law_653 rfl rfl 3 rfl ?_
        refine v_aload_n (pc' := 655) hc_law dL_law_654 rfl rfl 1 rfl ?_
        refine v_iload (pc' := 657) hc_law dL_law_655 rfl 6 rfl ?_
        refine v_iconst (pc' := 658) (v := 1) hc_law dL_law_657 rfl rfl ?_
        refine v_iadd (pc' := 659) hc_law dL_law_658 rfl ?_
        refine v_iald (pc' := 660) hc_law dL_law_659 rfl e (fun v99 _ e => ?_)
        refine v_aload_n (pc' := 661) hc_law dL_law_660 rfl rfl 1 rfl ?_
        refine v_iload (pc' := 663) hc_law dL_law_661 rfl 6 rfl ?_
        refine v_iconst (pc' := 664) (v := 2) hc_law dL_law_663 rfl rfl ?_
        refine v_iadd (pc' := 665) hc_law dL_law_664 rfl ?_
        refine v_iald (pc' := 666) hc_law dL_law_665 rfl e (fun v100 _ e => ?_)
        refine v_aload_n (pc' := 667) hc_law dL_law_666 rfl rfl 1 rfl ?_
        refine v_iload (pc' := 669) hc_law dL_law_667 rfl 6 rfl ?_
        refine v_iconst (pc' := 670) (v := 3) hc_law dL_law_669 rfl rfl ?_
        refine v_iadd (pc' := 671) hc_law dL_law_670 rfl ?_
        refine v_iald (pc' := 672) hc_law dL_law_671 rfl e (fun v101 _ e => ?_)
        obtain ⟨c102, e⟩ := gd_of e
        obtain ⟨r103, h104, e105, e⟩ := bd2_of e
        refine k_V (pc' := 675) (ci := 2) (n := 3) hc_law ho_law rfl c102 (w_X3_print D l hl x2 v99 v100 v101 h97 e105) (wA_l q2403) q2404 (wA_l q2405) q85 q2406 hy_154 ⟨Nat.le_of_ble_eq_true rfl, Nat.le_of_ble_eq_true rfl⟩ rfl rfl (Nat.le_of_ble_eq_true rfl) dL_law_672 rfl (kS ?_) kN
        refine v_istore (pc' := 677) (lv' := [(7, .int r103), (6, .int r96), (0, .ref x0), (1, .ref x1), (2, .ref x2), (3, .ref x3), (4, .ref x4), (5, .int x5)]) hc_law dL_law_675 rfl (Nat.le_of_ble_eq_true rfl) rfl ?_
        refine v_aload_n (pc' := 678) hc_law dL_law_677 rfl rfl 4 rfl ?_
        obtain ⟨c106, e⟩ := gd_of e
        obtain ⟨r107, h108, e109, e⟩ := bd2_of e
        refine k_V (pc' := 681) (ci := 2) (n := 0) hc_law ho_law rfl c106 (w_X3_thrown D l hl x2 h104 e109) (wA_l q2316) q2317 (wA_l q2318) q85 q2319 hy_126 ⟨Nat.le_of_ble_eq_true rfl, Nat.le_of_ble_eq_true rfl⟩ rfl rfl (Nat.le_of_ble_eq_true rfl) dL_law_678 rfl (kS ?_) kN
        refine v_iload (pc' := 683) hc_law dL_law_681 rfl 1 rfl ?_
        refine v_icmp_eq (pt := 688) (pf := 686) hc_law dL_law_683 rfl rfl e (fun _ e => ?_) (fun _ e => ?_)
        · refine v_iload (pc' := 690) hc_law dL_law_688 rfl 1 rfl ?_
          refine v_if_ne (pt := 705) (pf := 693) hc_law dL_law_690 rfl rfl e (fun _ e => ?_) (fun _ e => ?_)
          · refine v_aload_n (pc' := 694) hc_law dL_law_693 rfl rfl 5 rfl ?_
            refine v_iconst (pc' := 695) (v := 0) hc_law dL_law_694 rfl rfl ?_
            refine v_lald (pc' := 696) hc_law dL_law_695 rfl e (fun v110 _ e => ?_)
            refine v_iload (pc' := 698) hc_law dL_law_696 rfl 0 rfl ?_
            refine v_i2l (pc' := 699) hc_law dL_law_698 rfl ?_
            refine v_lcmp (pc' := 700) hc_law dL_law_699 rfl ?_
            refine v_if_eq (pt := 705) (pf := 703) hc_law dL_law_700 rfl rfl e (fun _ e => ?_) (fun _ e => ?_)
            · refine v_goto (pt := 2222) hc_law dL_law_705 rfl ?_
              refine v_iinc (pc' := 2225) (lv' := [(5, .int (x5 + 4)), (7, .int r103), (6, .int r96), (0, .ref x0), (1, .ref x1), (2, .ref x2), (3, .ref x3), (4, .ref x4)]) (v := x5 + 4) hc_law dL_law_2222 rfl 7 rfl rfl (Nat.le_of_ble_eq_true rfl) rfl ?_
              refine v_goto (pt := 28) hc_law dL_law_2225 rfl ?_
              refine v_pick [3, 4, 5, 6, 7, 0] rfl ?_
              exact IH x0 x1 x2 x3 x4 (x5 + 4) h108 e
            · refine v_iconst (pc' := 704) (v := 0) hc_law dL_law_703 rfl rfl ?_
              obtain ⟨rfl, rfl⟩ := ret_of e
              exact v_zret hc_law rfl (ft := .boolean) rfl dL_law_704 rfl rfl
          · refine v_goto (pt := 2222) hc_law dL_law_705 rfl ?_
            refine v_iinc (pc' := 2225) (lv' := [(5, .int (x5 + 4)), (7, .int r103), (6, .int r96), (0, .ref x0), (1, .ref x1), (2, .ref x2), (3, .ref x3), (4, .ref x4)]) (v := x5 + 4) hc_law dL_law_2222 rfl 7 rfl rfl (Nat.le_of_ble_eq_true rfl) rfl ?_
            refine v_goto (pt := 28) hc_law dL_law_2225 rfl ?_
            refine v_pick [3, 4, 5, 6, 7, 0] rfl ?_
            exact IH x0 x1 x2 x3 x4 (x5 + 4) h108 e
        · refine v_iconst (pc' := 687) (v := 0) hc_law dL_law_686 rfl rfl ?_
          obtain ⟨rfl, rfl⟩ := ret_of e
          exact v_zret hc_law rfl (ft := .boolean) rfl dL_law_687 rfl rfl
      rcases ite_cs e with ⟨n128, e⟩ | ⟨n128, e⟩
      · refine v_tbl (off := 664) (pt := 708) hc_law dL_law_44 rfl rfl (by rw [n128]; rfl) rfl ?_
        refine v_aload_n (pc' := 709) hc_law dL_law_708 rfl rfl 1 rfl ?_
        refine v_aload_n (pc' := 710) hc_law dL_law_709 rfl rfl 0 rfl ?_
        refine v_iload (pc' := 712) hc_law dL_law_710 rfl 5 rfl ?_
        refine v_iconst (pc' := 713) (v := 1) hc_law dL_law_712 rfl rfl ?_
        refine v_iadd (pc' := 714) hc_law dL_law_713 rfl ?_
        refine v_iald (pc' := 715) hc_law dL_law_714 rfl e (fun v112 _ e => ?_)
        refine v_aload_n (pc' := 716) hc_law dL_law_715 rfl rfl 0 rfl ?_
        refine v_iload (pc' := 718) hc_law dL_law_716 rfl 5 rfl ?_
        refine v_iconst (pc' := 719) (v := 2) hc_law dL_law_718 rfl rfl ?_
        refine v_iadd (pc' := 720) hc_law dL_law_719 rfl ?_
        refine v_iald (pc' := 721) hc_law dL_law_720 rfl e (fun v113 _ e => ?_)
        refine v_aload_n (pc' := 722) hc_law dL_law_721 rfl rfl 3 rfl ?_
        obtain ⟨r114, h115, e116, e⟩ := bd2_of e
        refine k_SX (pc' := 725) (x := ⟨"BlockPapersLaw", "rollOf", "(LBlockPapers;II[J)I"⟩) (n := 4) hc_law ho_law (w_X0_rollOf D l hl x1 v112 v113 x3 h e116) (wA_l q1613) q1614 q74 q1615 hy_163 ⟨Nat.le_of_ble_eq_true rfl, Nat.le_of_ble_eq_true rfl⟩ rfl rfl (Nat.le_of_ble_eq_true rfl) dL_law_722 rfl (kS ?_) kN
        refine v_istore (pc' := 727) (lv' := [(6, .int r114), (0, .ref x0), (1, .ref x1), (2, .ref x2), (3, .ref x3), (4, .ref x4), (5, .int x5)]) hc_law dL_law_725 rfl (Nat.le_of_ble_eq_true rfl) rfl ?_
        refine v_aload_n (pc' := 728) hc_law dL_law_727 rfl rfl 3 rfl ?_
        refine v_aload_n (pc' := 729) hc_law dL_law_728 rfl rfl 1 rfl ?_
        refine v_iload (pc' := 731) hc_law dL_law_729 rfl 6 rfl ?_
        refine v_iconst (pc' := 732) (v := 1) hc_law dL_law_731 rfl rfl ?_
        refine v_iadd (pc' := 733) hc_law dL_law_732 rfl ?_
        refine v_iald (pc' := 734) hc_law dL_law_733 rfl e (fun v117 _ e => ?_)
        refine v_aload_n (pc' := 735) hc_law dL_law_734 rfl rfl 1 rfl ?_
        refine v_iload (pc' := 737) hc_law dL_law_735 rfl 6 rfl ?_
        refine v_iconst (pc' := 738) (v := 2) hc_law dL_law_737 rfl rfl ?_
        refine v_iadd (pc' := 739) hc_law dL_law_738 rfl ?_
        refine v_iald (pc' := 740) hc_law dL_law_739 rfl e (fun v118 _ e => ?_)
        obtain ⟨c119, e⟩ := gd_of e
        obtain ⟨r120, h121, e122, e⟩ := bd2_of e
        refine k_V (pc' := 743) (ci := 2) (n := 2) hc_law ho_law rfl c119 (w_X3_rollOf D l hl x2 v117 v118 h115 e122) (wA_l q2411) q2412 (wA_l q2413) q85 q2414 hy_171 ⟨Nat.le_of_ble_eq_true rfl, Nat.le_of_ble_eq_true rfl⟩ rfl rfl (Nat.le_of_ble_eq_true rfl) dL_law_740 rfl (kS ?_) kN
        refine v_istore (pc' := 745) (lv' := [(7, .int r120), (6, .int r114), (0, .ref x0), (1, .ref x1), (2, .ref x2), (3, .ref x3), (4, .ref x4), (5, .int x5)]) hc_law dL_law_743 rfl (Nat.le_of_ble_eq_true rfl) rfl ?_
        refine v_aload_n (pc' := 746) hc_law dL_law_745 rfl rfl 4 rfl ?_
        obtain ⟨c123, e⟩ := gd_of e
        obtain ⟨r124, h125, e126, e⟩ := bd2_of e
        refine k_V (pc' := 749) (ci := 2) (n := 0) hc_law ho_law rfl c123 (w_X3_thrown D l hl x2 h121 e126) (wA_l q2316) q2317 (wA_l q2318) q85 q2319 hy_126 ⟨Nat.le_of_ble_eq_true rfl, Nat.le_of_ble_eq_true rfl⟩ rfl rfl (Nat.le_of_ble_eq_true rfl) dL_law_746 rfl (kS ?_) kN
        refine v_iload (pc' := 751) hc_law dL_law_749 rfl 1 rfl ?_
        refine v_icmp_eq (pt := 756) (pf := 754) hc_law dL_law_751 rfl rfl e (fun _ e => ?_) (fun _ e => ?_)
        · refine v_iload (pc' := 758) hc_law dL_law_756 rfl 1 rfl ?_
          refine v_if_ne (pt := 773) (pf := 761) hc_law dL_law_758 rfl rfl e (fun _ e => ?_) (fun _ e => ?_)
          · refine v_aload_n (pc' := 762) hc_law dL_law_761 rfl rfl 5 rfl ?_
            refine v_iconst (pc' := 763) (v := 0) hc_law dL_law_762 rfl rfl ?_
            refine v_lald (pc' := 764) hc_law dL_law_763 rfl e (fun v127 _ e => ?_)
            refine v_iload (pc' := 766) hc_law dL_law_764 rfl 0 rfl ?_
            refine v_i2l (pc' := 767) hc_law dL_law_766 rfl ?_
            refine v_lcmp (pc' := 768) hc_law dL_law_767 rfl ?_
            refine v_if_eq (pt := 773) (pf := 771) hc_law dL_law_768 rfl rfl e (fun _ e => ?_) (fun _ e => ?_)
            · refine v_goto (pt := 2222) hc_law dL_law_773 rfl ?_
              refine v_iinc (pc' := 2225) (lv' := [(5, .int (x5 + 4)), (7, .int r120), (6, .int r114), (0, .ref x0), (1, .ref x1), (2, .ref x2), (3, .ref x3), (4, .ref x4)]) (v := x5 + 4) hc_law dL_law_2222 rfl 7 rfl rfl (Nat.le_of_ble_eq_true rfl) rfl ?_
              refine v_goto (pt := 28) hc_law dL_law_2225 rfl ?_
              refine v_pick [3, 4, 5, 6, 7, 0] rfl ?_
              exact IH x0 x1 x2 x3 x4 (x5 + 4) h125 e
            · refine v_iconst (pc' := 772) (v := 0) hc_law dL_law_771 rfl rfl ?_
              obtain ⟨rfl, rfl⟩ := ret_of e
              exact v_zret hc_law rfl (ft := .boolean) rfl dL_law_772 rfl rfl
          · refine v_goto (pt := 2222) hc_law dL_law_773 rfl ?_
            refine v_iinc (pc' := 2225) (lv' := [(5, .int (x5 + 4)), (7, .int r120), (6, .int r114), (0, .ref x0), (1, .ref x1), (2, .ref x2), (3, .ref x3), (4, .ref x4)]) (v := x5 + 4) hc_law dL_law_2222 rfl 7 rfl rfl (Nat.le_of_ble_eq_true rfl) rfl ?_
            refine v_goto (pt := 28) hc_law dL_law_2225 rfl ?_
            refine v_pick [3, 4, 5, 6, 7, 0] rfl ?_
            exact IH x0 x1 x2 x3 x4 (x5 + 4) h125 e
        · refine v_iconst (pc' := 755) (v := 0) hc_law dL_law_754 rfl rfl ?_
          obtain ⟨rfl, rfl⟩ := ret_of e
          exact v_zret hc_law rfl (ft := .boolean) rfl dL_law_755 rfl rfl
      rcases ite_cs e with ⟨n143, e⟩ | ⟨n143, e⟩
      · refine v_tbl (off := 732) (pt := 776) hc_law dL_law_44 rfl rfl (by rw [n143]; rfl) rfl ?_
        refine v_aload_n (pc' := 777) hc_law dL_law_776 rfl rfl 1 rfl ?_
        refine v_aload_n (pc' := 778) hc_law dL_law_777 rfl rfl 0 rfl ?_
        refine v_iload (pc' := 780) hc_law dL_law_778 rfl 5 rfl ?_
        refine v_iconst (pc' := 781) (v := 1) hc_law dL_law_780 rfl rfl ?_
        refine v_iadd (pc' := 782) hc_law dL_law_781 rfl ?_
        refine v_iald (pc' := 783) hc_law dL_law_782 rfl e (fun v129 _ e => ?_)
        refine v_aload_n (pc' := 784) hc_law dL_law_783 rfl rfl 3 rfl ?_
        obtain ⟨r130, h131, e132, e⟩ := bd2_of e
        refine k_SX (pc' := 787) (x := ⟨"BlockPapersLaw", "giveBack", "(LBlockPapers;I[J)I"⟩) (n := 3) hc_law ho_law (w_X0_giveBack D l hl x1 v129 x3 h e132) (wA_l q1622) q1623 q74 q1624 hy_173 ⟨Nat.le_of_ble_eq_true rfl, Nat.le_of_ble_eq_true rfl⟩ rfl rfl (Nat.le_of_ble_eq_true rfl) dL_law_784 rfl (kS ?_) kN
        refine v_istore (pc' := 789) (lv' := [(6, .int r130), (0, .ref x0), (1, .ref x1), (2, .ref x2), (3, .ref x3), (4, .ref x4), (5, .int x5)]) hc_law dL_law_787 rfl (Nat.le_of_ble_eq_true rfl) rfl ?_
        refine v_aload_n (pc' := 790) hc_law dL_law_789 rfl rfl 3 rfl ?_
        refine v_aload_n (pc' := 791) hc_law dL_law_790 rfl rfl 1 rfl ?_
        refine v_iload (pc' := 793) hc_law dL_law_791 rfl 6 rfl ?_
        refine v_iconst (pc' := 794) (v := 1) hc_law dL_law_793 rfl rfl ?_
        refine v_iadd (pc' := 795) hc_law dL_law_794 rfl ?_
        refine v_iald (pc' := 796) hc_law dL_law_795 rfl e (fun v133 _ e => ?_)
        obtain ⟨c134, e⟩ := gd_of e
        obtain ⟨r135, h136, e137, e⟩ := bd2_of e
        refine k_V (pc' := 799) (ci := 2) (n := 1) hc_law ho_law rfl c134 (w_X3_giveBack D l hl x2 v133 h131 e137) (wA_l q2442) q2443 (wA_l q2444) q85 q2445 hy_177 ⟨Nat.le_of_ble_eq_true rfl, Nat.le_of_ble_eq_true rfl⟩ rfl rfl (Nat.le_of_ble_eq_true rfl) dL_law_796 rfl (kS ?_) kN
        refine v_istore (pc' := 801) (lv' := [(7, .int r135), (6, .int r130), (0, .ref x0), (1, .ref x1), (2, .ref x2), (3, .ref x3), (4, .ref x4), (5, .int x5)]) hc_law dL_law_799 rfl (Nat.le_of_ble_eq_true rfl) rfl ?_
        refine v_aload_n (pc' := 802) hc_law dL_law_801 rfl rfl 4 rfl ?_
        obtain ⟨c138, e⟩ := gd_of e
        obtain ⟨r139, h140, e141, e⟩ := bd2_of e
        refine k_V (pc' := 805) (ci := 2) (n := 0) hc_law ho_law rfl c138 (w_X3_thrown D l hl x2 h136 e141) (wA_l q2316) q2317 (wA_l q2318) q85 q2319 hy_126 ⟨Nat.le_of_ble_eq_true rfl, Nat.le_of_ble_eq_true rfl⟩ rfl rfl (Nat.le_of_ble_eq_true rfl) dL_law_802 rfl (kS ?_) kN
        refine v_iload (pc' := 807) hc_law dL_law_805 rfl 1 rfl ?_
        refine v_icmp_eq (pt := 812) (pf := 810) hc_law dL_law_807 rfl rfl e (fun _ e => ?_) (fun _ e => ?_)
        · refine v_iload (pc' := 814) hc_law dL_law_812 rfl 1 rfl ?_
          refine v_if_ne (pt := 829) (pf := 817) hc_law dL_law_814 rfl rfl e (fun _ e => ?_) (fun _ e => ?_)
          · refine v_aload_n (pc' := 818) hc_law dL_law_817 rfl rfl 5 rfl ?_
            refine v_iconst (pc' := 819) (v := 0) hc_law dL_law_818 rfl rfl ?_
            refine v_lald (pc' := 820) hc_law dL_law_819 rfl e (fun v142 _ e => ?_)
            refine v_iload (pc' := 822) hc_law dL_law_820 rfl 0 rfl ?_
            refine v_i2l (pc' := 823) hc_law dL_law_822 rfl ?_
            refine v_lcmp (pc' := 824) hc_law dL_law_823 rfl ?_
            refine v_if_eq (pt := 829) (pf := 827) hc_law dL_law_824 rfl rfl e (fun _ e => ?_) (fun _ e => ?_)
            · refine v_goto (pt := 2222) hc_law dL_law_829 rfl ?_
              refine v_iinc (pc' := 2225) (lv' := [(5, .int (x5 + 4)), (7, .int r135), (6, .int r130), (0, .ref x0), (1, .ref x1), (2, .ref x2), (3, .ref x3), (4, .ref x4)]) (v := x5 + 4) hc_law dL_law_2222 rfl 7 rfl rfl (Nat.le_of_ble_eq_true rfl) rfl ?_
              refine v_goto (pt := 28) hc_law dL_law_2225 rfl ?_
              refine v_pick [3, 4, 5, 6, 7, 0] rfl ?_
              exact IH x0 x1 x2 x3 x4 (x5 + 4) h140 e
            · refine v_iconst (pc' := 828) (v := 0) hc_law dL_law_827 rfl rfl ?_
              obtain ⟨rfl, rfl⟩ := ret_of e
              exact v_zret hc_law rfl (ft := .boolean) rfl dL_law_828 rfl rfl
          · refine v_goto (pt := 2222) hc_law dL_law_829 rfl ?_
            refine v_iinc (pc' := 2225) (lv' := [(5, .int (x5 + 4)), (7, .int r135), (6, .int r130), (0, .ref x0), (1, .ref x1), (2, .ref x2), (3, .ref x3), (4, .ref x4)]) (v := x5 + 4) hc_law dL_law_2222 rfl 7 rfl rfl (Nat.le_of_ble_eq_true rfl) rfl ?_
            refine v_goto (pt := 28) hc_law dL_law_2225 rfl ?_
            refine v_pick [3, 4, 5, 6, 7, 0] rfl ?_
            exact IH x0 x1 x2 x3 x4 (x5 + 4) h140 e
        · refine v_iconst (pc' := 811) (v := 0) hc_law dL_law_810 rfl rfl ?_
          obtain ⟨rfl, rfl⟩ := ret_of e
          exact v_zret hc_law rfl (ft := .boolean) rfl dL_law_811 rfl rfl
      rcases ite_cs e with ⟨n160, e⟩ | ⟨n160, e⟩
      · refine v_tbl (off := 788) (pt := 832) hc_law dL_law_44 rfl rfl (by rw [n160]; rfl) rfl ?_
        refine v_aload_n (pc' := 833) hc_law dL_law_832 rfl rfl 1 rfl ?_
        refine v_aload_n (pc' := 834) hc_law dL_law_833 rfl rfl 0 rfl ?_
        refine v_iload (pc' := 836) hc_law dL_law_834 rfl 5 rfl ?_
        refine v_iconst (pc' := 837) (v := 1) hc_law dL_law_836 rfl rfl ?_
        refine v_iadd (pc' := 838) hc_law dL_law_837 rfl ?_
        refine v_iald (pc' := 839) hc_law dL_law_838 rfl e (fun v144 _ e => ?_)
        refine v_aload_n (pc' := 840) hc_law dL_law_839 rfl rfl 0 rfl ?_
        refine v_iload (pc' := 842) hc_law dL_law_840 rfl 5 rfl ?_
        refine v_iconst (pc' := 843) (v := 2) hc_law dL_law_842 rfl rfl ?_
        refine v_iadd (pc' := 844) hc_law dL_law_843 rfl ?_
        refine v_iald (pc' := 845) hc_law dL_law_844 rfl e (fun v145 _ e => ?_)
        refine v_aload_n (pc' := 846) hc_law dL_law_845 rfl rfl 3 rfl ?_
        obtain ⟨r146, h147, e148, e⟩ := bd2_of e
        refine k_SX (pc' := 849) (x := ⟨"BlockPapersLaw", "room", "(LBlockPapers;II[J)I"⟩) (n := 4) hc_law ho_law (w_X0_room D l hl x1 v144 v145 x3 h e148) (wA_l q1630) q1631 q74 q1632 hy_179 ⟨Nat.le_of_ble_eq_true rfl, Nat.le_of_ble_eq_true rfl⟩ rfl rfl (Nat.le_of_ble_eq_true rfl) dL_law_846 rfl (kS ?_) kN
        refine v_istore (pc' := 851) (lv' := [(6, .int r146), (0, .ref x0), (1, .ref x1), (2, .ref x2), (3, .ref x3), (4, .ref x4), (5, .int x5)]) hc_law dL_law_849 rfl (Nat.le_of_ble_eq_true rfl) rfl ?_
        refine v_aload_n (pc' := 852) hc_law dL_law_851 rfl rfl 3 rfl ?_
        refine v_aload_n (pc' := 853) hc_law dL_law_852 rfl rfl 1 rfl ?_
        refine v_iload (pc' := 855) hc_law dL_law_853 rfl 6 rfl ?_
        refine v_iconst (pc' := 856) (v := 1) hc_law dL_law_855 rfl rfl ?_
        refine v_iadd (pc' := 857) hc_law dL_law_856 rfl ?_
        refine v_iald (pc' := 858) hc_law dL_law_857 rfl e (fun v149 _ e => ?_)
        refine v_aload_n (pc' := 859) hc_law dL_law_858 rfl rfl 1 rfl ?_
        refine v_iload (pc' := 861) hc_law dL_law_859 rfl 6 rfl ?_
        refine v_iconst (pc' := 862) (v := 2) hc_law dL_law_861 rfl rfl ?_
        refine v_iadd (pc' := 863) hc_law dL_law_862 rfl ?_
        refine v_iald (pc' := 864) hc_law dL_law_863 rfl e (fun v150 _ e => ?_)
        obtain ⟨c151, e⟩ := gd_of e
        obtain ⟨r152, h153, e154, e⟩ := bd2_of e
        refine k_V (pc' := 867) (ci := 2) (n := 2) hc_law ho_law rfl c151 (w_X3_room D l hl x2 v149 v150 h147 e154) (wA_l q2458) q2459 (wA_l q2460) q85 q2461 hy_181 ⟨Nat.le_of_ble_eq_true rfl, Nat.le_of_ble_eq_true rfl⟩ rfl rfl (Nat.le_of_ble_eq_true rfl) dL_law_864 rfl (kS ?_) kN
        refine v_istore (pc' := 869) (lv' := [(7, .int r152), (6, .int r146), (0, .ref x0), (1, .ref x1), (2, .ref x2), (3, .ref x3), (4, .ref x4), (5, .int x5)]) hc_law dL_law_867 rfl (Nat.le_of_ble_eq_true rfl) rfl ?_
        refine v_aload_n (pc' := 870) hc_law dL_law_869 rfl rfl 4 rfl ?_
        obtain ⟨c155, e⟩ := gd_of e
        obtain ⟨r156, h157, e158, e⟩ := bd2_of e
        refine k_V (pc' := 873) (ci := 2) (n := 0) hc_law ho_law rfl c155 (w_X3_thrown D l hl x2 h153 e158) (wA_l q2316) q2317 (wA_l q2318) q85 q2319 hy_126 ⟨Nat.le_of_ble_eq_true rfl, Nat.le_of_ble_eq_true rfl⟩ rfl rfl (Nat.le_of_ble_eq_true rfl) dL_law_870 rfl (kS ?_) kN
        refine v_iload (pc' := 875) hc_law dL_law_873 rfl 1 rfl ?_
        refine v_icmp_eq (pt := 880) (pf := 878) hc_law dL_law_875 rfl rfl e (fun _ e => ?_) (fun _ e => ?_)
        · refine v_iload (pc' := 882) hc_law dL_law_880 rfl 1 rfl ?_
          refine v_if_ne (pt := 897) (pf := 885) hc_law dL_law_882 rfl rfl e (fun _ e => ?_) (fun _ e => ?_)
          · refine v_aload_n (pc' := 886) hc_law dL_law_885 rfl rfl 5 rfl ?_
            refine v_iconst (pc' := 887) (v := 0) hc_law dL_law_886 rfl rfl ?_
            refine v_lald (pc' := 888) hc_law dL_law_887 rfl e (fun v159 _ e => ?_)
            refine v_iload (pc' := 890) hc_law dL_law_888 rfl 0 rfl ?_
            refine v_i2l (pc' := 891) hc_law dL_law_890 rfl ?_
            refine v_lcmp (pc' := 892) hc_law dL_law_891 rfl ?_
            refine v_if_eq (pt := 897) (pf := 895) hc_law dL_law_892 rfl rfl e (fun _ e => ?_) (fun _ e => ?_)
            · refine v_goto (pt := 2222) hc_law dL_law_897 rfl ?_
              refine v_iinc (pc' := 2225) (lv' := [(5, .int (x5 + 4)), (7, .int r152), (6, .int r146), (0, .ref x0), (1, .ref x1), (2, .ref x2), (3, .ref x3), (4, .ref x4)]) (v := x5 + 4) hc_law dL_law_2222 rfl 7 rfl rfl (Nat.le_of_ble_eq_true rfl) rfl ?_
              refine v_goto (pt := 28) hc_law dL_law_2225 rfl ?_
              refine v_pick [3, 4, 5, 6, 7, 0] rfl ?_
              exact IH x0 x1 x2 x3 x4 (x5 + 4) h157 e
            · refine v_iconst (pc' := 896) (v := 0) hc_law dL_law_895 rfl rfl ?_
              obtain ⟨rfl, rfl⟩ := ret_of e
              exact v_zret hc_law rfl (ft := .boolean) rfl dL_law_896 rfl rfl
          · refine v_goto (pt := 2222) hc_law dL_law_897 rfl ?_
            refine v_iinc (pc' := 2225) (lv' := [(5, .int (x5 + 4)), (7, .int r152), (6, .int r146), (0, .ref x0), (1, .ref x1), (2, .ref x2), (3, .ref x3), (4, .ref x4)]) (v := x5 + 4) hc_law dL_law_2222 rfl 7 rfl rfl (Nat.le_of_ble_eq_true rfl) rfl ?_
            refine v_goto (pt := 28) hc_law dL_law_2225 rfl ?_
            refine v_pick [3, 4, 5, 6, 7, 0] rfl ?_
            exact IH x0 x1 x2 x3 x4 (x5 + 4) h157 e
        · refine v_iconst (pc' := 879) (v := 0) hc_law dL_law_878 rfl rfl ?_
          obtain ⟨rfl, rfl⟩ := ret_of e
          exact v_zret hc_law rfl (ft := .boolean) rfl dL_law_879 rfl rfl
      rcases ite_cs e with ⟨n177, e⟩ | ⟨n177, e⟩
      · refine v_tbl (off := 856) (pt := 900) hc_law dL_law_44 rfl rfl (by rw [n177]; rfl) rfl ?_
        refine v_aload_n (pc' := 901) hc_law dL_law_900 rfl rfl 1 rfl ?_
        refine v_aload_n (pc' := 902) hc_law dL_law_901 rfl rfl 0 rfl ?_
        refine v_iload (pc' := 904) hc_law dL_law_902 rfl 5 rfl ?_
        refine v_iconst (pc' := 905) (v := 1) hc_law dL_law_904 rfl rfl ?_
        refine v_iadd (pc' := 906) hc_law dL_law_905 rfl ?_
        refine v_iald (pc' := 907) hc_law dL_law_906 rfl e (fun v161 _ e => ?_)
        refine v_aload_n (pc' := 908) hc_law dL_law_907 rfl rfl 0 rfl ?_
        refine v_iload (pc' := 910) hc_law dL_law_908 rfl 5 rfl ?_
        refine v_iconst (pc' := 911) (v := 2) hc_law dL_law_910 rfl rfl ?_
        refine v_iadd (pc' := 912) hc_law dL_law_911 rfl ?_
        refine v_iald (pc' := 913) hc_law dL_law_912 rfl e (fun v162 _ e => ?_)
        refine v_aload_n (pc' := 914) hc_law dL_law_913 rfl rfl 3 rfl ?_
        obtain ⟨r163, h164, e165, e⟩ := bd2_of e
        refine k_SX (pc' := 917) (x := ⟨"BlockPapersLaw", "roomOf", "(LBlockPapers;II[J)I"⟩) (n := 4) hc_law ho_law (w_X0_roomOf D l hl x1 v161 v162 x3 h e165) (wA_l q1638) q1639 q74 q1640 hy_183 ⟨Nat.le_of_ble_eq_true rfl, Nat.le_of_ble_eq_true rfl⟩ rfl rfl (Nat.le_of_ble_eq_true rfl) dL_law_914 rfl (kS ?_) kN
        refine v_istore (pc' := 919) (lv' := [(6, .int r163), (0, .ref x0), (1, .ref x1), (2, .ref x2), (3, .ref x3), (4, .ref x4), (5, .int x5)]) hc_law dL_law_917 rfl (Nat.le_of_ble_eq_true rfl) rfl ?_
        refine v_aload_n (pc' := 920) hc_law dL_law_919 rfl rfl 3 rfl ?_
        refine v_aload_n (pc' := 921) hc_law dL_law_920 rfl rfl 1 rfl ?_
        refine v_iload (pc' := 923) hc_law dL_law_921 rfl 6 rfl ?_
        refine v_iconst (pc' := 924) (v := 1) hc_law dL_law_923 rfl rfl ?_
        refine v_iadd (pc' := 925) hc_law dL_law_924 rfl ?_
        refine v_iald (pc' := 926) hc_law dL_law_925 rfl e (fun v166 _ e => ?_)
        refine v_aload_n (pc' := 927) hc_law dL_law_926 rfl rfl 1 rfl ?_
        refine v_iload (pc' := 929) hc_law dL_law_927 rfl 6 rfl ?_
        refine v_iconst (pc' := 930) (v := 2) hc_law dL_law_929 rfl rfl ?_
        refine v_iadd (pc' := 931) hc_law dL_law_930 rfl ?_
        refine v_iald (pc' := 932) hc_law dL_law_931 rfl e (fun v167 _ e => ?_)
        obtain ⟨c168, e⟩ := gd_of e
        obtain ⟨r169, h170, e171, e⟩ := bd2_of e
        refine k_V (pc' := 935) (ci := 2) (n := 2) hc_law ho_law rfl c168 (w_X3_roomOf D l hl x2 v166 v167 h164 e171) (wA_l q2466) q2467 (wA_l q2468) q85 q2469 hy_188 ⟨Nat.le_of_ble_eq_true rfl, Nat.le_of_ble_eq_true rfl⟩ rfl rfl (Nat.le_of_ble_eq_true rfl) dL_law_932 rfl (kS ?_) kN
        refine v_istore (pc' := 937) (lv' := [(7, .int r169), (6, .int r163), (0, .ref x0), (1, .ref x1), (2, .ref x2), (3, .ref x3), (4, .ref x4), (5, .int x5)]) hc_law dL_law_935 rfl (Nat.le_of_ble_eq_true rfl) rfl ?_
        refine v_aload_n (pc' := 938) hc_law dL_law_937 rfl rfl 4 rfl ?_
        obtain ⟨c172, e⟩ := gd_of e
        obtain ⟨r173, h174, e175, e⟩ := bd2_of e
        refine k_V (pc' := 941) (ci := 2) (n := 0) hc_law ho_law rfl c172 (w_X3_thrown D l hl x2 h170 e175) (wA_l q2316) q2317 (wA_l q2318) q85 q2319 hy_126 ⟨Nat.le_of_ble_eq_true rfl, Nat.le_of_ble_eq_true rfl⟩ rfl rfl (Nat.le_of_ble_eq_true rfl) dL_law_938 rfl (kS ?_) kN
        refine v_iload (pc' := 943) hc_law dL_law_941 rfl 1 rfl ?_
        refine v_icmp_eq (pt := 948) (pf := 946) hc_law dL_law_943 rfl rfl e (fun _ e => ?_) (fun _ e => ?_)
        · refine v_iload (pc' := 950) hc_law dL_law_948 rfl 1 rfl ?_
          refine v_if_ne (pt := 965) (pf := 953) hc_law dL_law_950 rfl rfl e (fun _ e => ?_) (fun _ e => ?_)
          · refine v_aload_n (pc' := 954) hc_law dL_law_953 rfl rfl 5 rfl ?_
            refine v_iconst (pc' := 955) (v := 0) hc_law dL_law_954 rfl rfl ?_
            refine v_lald (pc' := 956) hc_law dL_law_955 rfl e (fun v176 _ e => ?_)
            refine v_iload (pc' := 958) hc_law dL_law_956 rfl 0 rfl ?_
            refine v_i2l (pc' := 959) hc_law dL_law_958 rfl ?_
            refine v_lcmp (pc' := 960) hc_law dL_law_959 rfl ?_
            refine v_if_eq (pt := 965) (pf := 963) hc_law dL_law_960 rfl rfl e (fun _ e => ?_) (fun _ e => ?_)
            · refine v_goto (pt := 2222) hc_law dL_law_965 rfl ?_
              refine v_iinc (pc' := 2225) (lv' := [(5, .int (x5 + 4)), (7, .int r169), (6, .int r163), (0, .ref x0), (1, .ref x1), (2, .ref x2), (3, .ref x3), (4, .ref x4)]) (v := x5 + 4) hc_law dL_law_2222 rfl 7 rfl rfl (Nat.le_of_ble_eq_true rfl) rfl ?_
              refine v_goto (pt := 28) hc_law dL_law_2225 rfl ?_
              refine v_pick [3, 4, 5, 6, 7, 0] rfl ?_
              exact IH x0 x1 x2 x3 x4 (x5 + 4) h174 e
            · refine v_iconst (pc' := 964) (v := 0) hc_law dL_law_963 rfl rfl ?_
              obtain ⟨rfl, rfl⟩ := ret_of e
              exact v_zret hc_law rfl (ft := .boolean) rfl dL_law_964 rfl rfl
          · refine v_goto (pt := 2222) hc_law dL_law_965 rfl ?_
            refine v_iinc (pc' := 2225) (lv' := [(5, .int (x5 + 4)), (7, .int r169), (6, .int r163), (0, .ref x0), (1, .ref x1), (2, .ref x2), (3, .ref x3), (4, .ref x4)]) (v := x5 + 4) hc_law dL_law_2222 rfl 7 rfl rfl (Nat.le_of_ble_eq_true rfl) rfl ?_
            refine v_goto (pt := 28) hc_law dL_law_2225 rfl ?_
            refine v_pick [3, 4, 5, 6, 7, 0] rfl ?_
            exact IH x0 x1 x2 x3 x4 (x5 + 4) h174 e
        · refine v_iconst (pc' := 947) (v := 0) hc_law dL_law_946 rfl rfl ?_
          obtain ⟨rfl, rfl⟩ := ret_of e
          exact v_zret hc_law rfl (ft := .boolean) rfl dL_law_947 rfl rfl
      rcases ite_cs e with ⟨n196, e⟩ | ⟨n196, e⟩
      · refine v_tbl (off := 924) (pt := 968) hc_law dL_law_44 rfl rfl (by rw [n196]; rfl) rfl ?_
        refine v_aload_n (pc' := 969) hc_law dL_law_968 rfl rfl 1 rfl ?_
        refine v_aload_n (pc' := 970) hc_law dL_law_969 rfl rfl 0 rfl ?_
        refine v_iload (pc' := 972) hc_law dL_law_970 rfl 5 rfl ?_
        refine v_iconst (pc' := 973) (v := 1) hc_law dL_law_972 rfl rfl ?_
        refine v_iadd (pc' := 974) hc_law dL_law_973 rfl ?_
        refine v_iald (pc' := 975) hc_law dL_law_974 rfl e (fun v178 _ e => ?_)
        refine v_aload_n (pc' := 976) hc_law dL_law_975 rfl rfl 0 rfl ?_
        refine v_iload (pc' := 978) hc_law dL_law_976 rfl 5 rfl ?_
        refine v_iconst (pc' := 979) (v := 2) hc_law dL_law_978 rfl rfl ?_
        refine v_iadd (pc' := 980) hc_law dL_law_979 rfl ?_
        refine v_iald (pc' := 981) hc_law dL_law_980 rfl e (fun v179 _ e => ?_)
        refine v_aload_n (pc' := 982) hc_law dL_law_981 rfl rfl 0 rfl ?_
        refine v_iload (pc' := 984) hc_law dL_law_982 rfl 5 rfl ?_
        refine v_iconst (pc' := 985) (v := 3) hc_law dL_law_984 rfl rfl ?_
        refine v_iadd (pc' := 986) hc_law dL_law_985 rfl ?_
        refine v_iald (pc' := 987) hc_law dL_law_986 rfl e (fun v180 _ e => ?_)
        refine v_aload_n (pc' := 988) hc_law dL_law_987 rfl rfl 3 rfl ?_
        obtain ⟨r181, h182, e183, e⟩ := bd2_of e
        refine k_SX (pc' := 991) (x := ⟨"BlockPapersLaw", "dropOf", "(LBlockPapers;III[J)I"⟩) (n := 5) hc_law ho_law (w_X0_dropOf D l hl x1 v178 v179 v180 x3 h e183) (wA_l q1649) q1650 q74 q1651 hy_190 ⟨Nat.le_of_ble_eq_true rfl, Nat.le_of_ble_eq_true rfl⟩ rfl rfl (Nat.le_of_ble_eq_true rfl) dL_law_988 rfl (kS ?_) kN
        refine v_istore (pc' := 993) (lv' := [(6, .int r181), (0, .ref x0), (1, .ref x1), (2, .ref x2), (3, .ref x3), (4, .ref x4), (5, .int x5)]) hc_law dL_law_991 rfl (Nat.le_of_ble_eq_true rfl) rfl ?_
        refine v_aload_n (pc' := 994) hc_law dL_law_993 rfl rfl 3 rfl ?_
        refine v_aload_n (pc' := 995) hc_law dL_law_994 rfl rfl 1 rfl ?_
        refine v_iload (pc' := 997) hc_law dL_law_995 rfl 6 rfl ?_
        refine v_iconst (pc' := 998) (v := 1) hc_law dL_law_997 rfl rfl ?_
        refine v_iadd (pc' := 999) hc_law dL_law_998 rfl ?_
        refine v_iald (pc' := 1000) hc_law dL_law_999 rfl e (fun v184 _ e => ?_)
        refine v_aload_n (pc' := 1001) hc_law dL_law_1000 rfl rfl 1 rfl ?_
        refine v_iload (pc' := 1003) hc_law dL_law_1001 rfl 6 rfl ?_
        refine v_iconst (pc' := 1004) (v := 2) hc_law dL_law_1003 rfl rfl ?_
        refine v_iadd (pc' := 1005) hc_law dL_law_1004 rfl ?_
        refine v_iald (pc' := 1006) hc_law dL_law_1005 rfl e (fun v185 _ e => ?_)
        refine v_aload_n (pc' := 1007) hc_law dL_law_1006 rfl rfl 1 rfl ?_
        refine v_iload (pc' := 1009) hc_law dL_law_1007 rfl 6 rfl ?_
        refine v_iconst (pc' := 1010) (v := 3) hc_law dL_law_1009 rfl rfl ?_
        refine v_iadd (pc' := 1011) hc_law dL_law_1010 rfl ?_
        refine v_iald (pc' := 1012) hc_law dL_law_1011 rfl e (fun v186 _ e => ?_)
        obtain ⟨c187, e⟩ := gd_of e
        obtain ⟨r188, h189, e190, e⟩ := bd2_of e
        refine k_V (pc' := 1015) (ci := 2) (n := 3) hc_law ho_law rfl c187 (w_X3_dropOf D l hl x2 v184 v185 v186 h182 e190) (wA_l q2486) q2487 (wA_l q2488) q85 q2489 hy_191 ⟨Nat.le_of_ble_eq_true rfl, Nat.le_of_ble_eq_true rfl⟩ rfl rfl (Nat.le_of_ble_eq_true rfl) dL_law_1012 rfl (kS ?_) kN
        refine v_istore (pc' := 1017) (lv' := [(7, .int r188), (6, .int r181), (0, .ref x0), (1, .ref x1), (2, .ref x2), (3, .ref x3), (4, .ref x4), (5, .int x5)]) hc_law dL_law_1015 rfl (Nat.le_of_ble_eq_true rfl) rfl ?_
        refine v_aload_n (pc' := 1018) hc_law dL_law_1017 rfl rfl 4 rfl ?_
        obtain ⟨c191, e⟩ := gd_of e
        obtain ⟨r192, h193, e194, e⟩ := bd2_of e
        refine k_V (pc' := 1021) (ci := 2) (n := 0) hc_law ho_law rfl c191 (w_X3_thrown D l hl x2 h189 e194) (wA_l q2316) q2317 (wA_l q2318) q85 q2319 hy_126 ⟨Nat.le_of_ble_eq_true rfl, Nat.le_of_ble_eq_true rfl⟩ rfl rfl (Nat.le_of_ble_eq_true rfl) dL_law_1018 rfl (kS ?_) kN
        refine v_iload (pc' := 1023) hc_law dL_law_1021 rfl 1 rfl ?_
        refine v_icmp_eq (pt := 1028) (pf := 1026) hc_law dL_law_1023 rfl rfl e (fun _ e => ?_) (fun _ e => ?_)
        · refine v_iload (pc' := 1030) hc_law dL_law_1028 rfl 1 rfl ?_
          refine v_if_ne (pt := 1045) (pf := 1033) hc_law dL_law_1030 rfl rfl e (fun _ e => ?_) (fun _ e => ?_)
          · refine v_aload_n (pc' := 1034) hc_law dL_law_1033 rfl rfl 5 rfl ?_
            refine v_iconst (pc' := 1035) (v := 0) hc_law dL_law_1034 rfl rfl ?_
            refine v_lald (pc' := 1036) hc_law dL_law_1035 rfl e (fun v195 _ e => ?_)
            refine v_iload (pc' := 1038) hc_law dL_law_1036 rfl 0 rfl ?_
            refine v_i2l (pc' := 1039) hc_law dL_law_1038 rfl ?_
            refine v_lcmp (pc' := 1040) hc_law dL_law_1039 rfl ?_
            refine v_if_eq (pt := 1045) (pf := 1043) hc_law dL_law_1040 rfl rfl e (fun _ e => ?_) (fun _ e => ?_)
            · refine v_goto (pt := 2222) hc_law dL_law_1045 rfl ?_
              refine v_iinc (pc' := 2225) (lv' := [(5, .int (x5 + 4)), (7, .int r188), (6, .int r181), (0, .ref x0), (1, .ref x1), (2, .ref x2), (3, .ref x3), (4, .ref x4)]) (v := x5 + 4) hc_law dL_law_2222 rfl 7 rfl rfl (Nat.le_of_ble_eq_true rfl) rfl ?_
              refine v_goto (pt := 28) hc_law dL_law_2225 rfl ?_
              refine v_pick [3, 4, 5, 6, 7, 0] rfl ?_
              exact IH x0 x1 x2 x3 x4 (x5 + 4) h193 e
            · refine v_iconst (pc' := 1044) (v := 0) hc_law dL_law_1043 rfl rfl ?_
              obtain ⟨rfl, rfl⟩ := ret_of e
              exact v_zret hc_law rfl (ft := .boolean) rfl dL_law_1044 rfl rfl
          · refine v_goto (pt := 2222) hc_law dL_law_1045 rfl ?_
            refine v_iinc (pc' := 2225) (lv' := [(5, .int (x5 + 4)), (7, .int r188), (6, .int r181), (0, .ref x0), (1, .ref x1), (2, .ref x2), (3, .ref x3), (4, .ref x4)]) (v := x5 + 4) hc_law dL_law_2222 rfl 7 rfl rfl (Nat.le_of_ble_eq_true rfl) rfl ?_
            refine v_goto (pt := 28) hc_law dL_law_2225 rfl ?_
            refine v_pick [3, 4, 5, 6, 7, 0] rfl ?_
            exact IH x0 x1 x2 x3 x4 (x5 + 4) h193 e
        · refine v_iconst (pc' := 1027) (v := 0) hc_law dL_law_1026 rfl rfl ?_
          obtain ⟨rfl, rfl⟩ := ret_of e
          exact v_zret hc_law rfl (ft := .boolean) rfl dL_law_1027 rfl rfl
      rcases ite_cs e with ⟨n213, e⟩ | ⟨n213, e⟩
      · refine v_tbl (off := 1004) (pt := 1048) hc_law dL_law_44 rfl rfl (by rw [n213]; rfl) rfl ?_
        refine v_aload_n (pc' := 1049) hc_law dL_law_1048 rfl rfl 1 rfl ?_
        refine v_aload_n (pc' := 1050) hc_law dL_law_1049 rfl rfl 0 rfl ?_
        refine v_iload (pc' := 1052) hc_law dL_law_1050 rfl 5 rfl ?_
        refine v_iconst (pc' := 1053) (v := 1) hc_law dL_law_1052 rfl rfl ?_
        refine v_iadd (pc' := 1054) hc_law dL_law_1053 rfl ?_
        refine v_iald (pc' := 1055) hc_law dL_law_1054 rfl e (fun v197 _ e => ?_)
        refine v_aload_n (pc' := 1056) hc_law dL_law_1055 rfl rfl 0 rfl ?_
        refine v_iload (pc' := 1058) hc_law dL_law_1056 rfl 5 rfl ?_
        refine v_iconst (pc' := 1059) (v := 2) hc_law dL_law_1058 rfl rfl ?_
        refine v_iadd (pc' := 1060) hc_law dL_law_1059 rfl ?_
        refine v_iald (pc' := 1061) hc_law dL_law_1060 rfl e (fun v198 _ e => ?_)
        refine v_aload_n (pc' := 1062) hc_law dL_law_1061 rfl rfl 3 rfl ?_
        obtain ⟨r199, h200, e201, e⟩ := bd2_of e
        refine k_SX (pc' := 1065) (x := ⟨"BlockPapersLaw", "hang", "(LBlockPapers;II[J)I"⟩) (n := 4) hc_law ho_law (w_X0_hang D l hl x1 v197 v198 x3 h e201) (wA_l q1659) q1660 q74 q1661 hy_193 ⟨Nat.le_of_ble_eq_true rfl, Nat.le_of_ble_eq_true rfl⟩ rfl rfl (Nat.le_of_ble_eq_true rfl) dL_law_1062 rfl (kS ?_) kN
        refine v_istore (pc' := 1067) (lv' := [(6, .int r199), (0, .ref x0), (1, .ref x1), (2, .ref x2), (3, .ref x3), (4, .ref x4), (5, .int x5)]) hc_law dL_law_1065 rfl (Nat.le_of_ble_eq_true rfl) rfl ?_
        refine v_aload_n (pc' := 1068) hc_law dL_law_1067 rfl rfl 3 rfl ?_
        refine v_aload_n (pc' := 1069) hc_law dL_law_1068 rfl rfl 1 rfl ?_
        refine v_iload (pc' := 1071) hc_law dL_law_1069 rfl 6 rfl ?_
        refine v_iconst (pc' := 1072) (v := 1) hc_law dL_law_1071 rfl rfl ?_
        refine v_iadd (pc' := 1073) hc_law dL_law_1072 rfl ?_
        refine v_iald (pc' := 1074) hc_law dL_law_1073 rfl e (fun v202 _ e => ?_)
        refine v_aload_n (pc' := 1075) hc_law dL_law_1074 rfl rfl 1 rfl ?_
        refine v_iload (pc' := 1077) hc_law dL_law_1075 rfl 6 rfl ?_
        refine v_iconst (pc' := 1078) (v := 2) hc_law dL_law_1077 rfl rfl ?_
        refine v_iadd (pc' := 1079) hc_law dL_law_1078 rfl ?_
        refine v_iald (pc' := 1080) hc_law dL_law_1079 rfl e (fun v203 _ e => ?_)
        obtain ⟨c204, e⟩ := gd_of e
        obtain ⟨r205, h206, e207, e⟩ := bd2_of e
        refine k_V (pc' := 1083) (ci := 2) (n := 2) hc_law ho_law rfl c204 (w_X3_hang D l hl x2 v202 v203 h200 e207) (wA_l q2490) q2491 (wA_l q2492) q85 q2493 hy_197 ⟨Nat.le_of_ble_eq_true rfl, Nat.le_of_ble_eq_true rfl⟩ rfl rfl (Nat.le_of_ble_eq_true rfl) dL_law_1080 rfl (kS ?_) kN
        refine v_istore (pc' := 1085) (lv' := [(7, .int r205), (6, .int r199), (0, .ref x0), (1, .ref x1), (2, .ref x2), (3, .ref x3), (4, .ref x4), (5, .int x5)]) hc_law dL_law_1083 rfl (Nat.le_of_ble_eq_true rfl) rfl ?_
        refine v_aload_n (pc' := 1086) hc_law dL_law_1085 rfl rfl 4 rfl ?_
        obtain ⟨c208, e⟩ := gd_of e
        obtain ⟨r209, h210, e211, e⟩ := bd2_of e
        refine k_V (pc' := 1089) (ci := 2) (n := 0) hc_law ho_law rfl c208 (w_X3_thrown D l hl x2 h206 e211) (wA_l q2316) q2317 (wA_l q2318) q85 q2319 hy_126 ⟨Nat.le_of_ble_eq_true rfl, Nat.le_of_ble_eq_true rfl⟩ rfl rfl (Nat.le_of_ble_eq_true rfl) dL_law_1086 rfl (kS ?_) kN
        refine v_iload (pc' := 1091) hc_law dL_law_1089 rfl 1 rfl ?_
        refine v_icmp_eq (pt := 1096) (pf := 1094) hc_law dL_law_1091 rfl rfl e (fun _ e => ?_) (fun _ e => ?_)
        · refine v_iload (pc' := 1098) hc_law dL_law_1096 rfl 1 rfl ?_
          refine v_if_ne (pt := 1113) (pf := 1101) hc_law dL_law_1098 rfl rfl e (fun _ e => ?_) (fun _ e => ?_)
          · refine v_aload_n (pc' := 1102) hc_law dL_law_1101 rfl rfl 5 rfl ?_
            refine v_iconst (pc' := 1103) (v := 0) hc_law dL_law_1102 rfl rfl ?_
            refine v_lald (pc' := 1104) hc_law dL_law_1103 rfl e (fun v212 _ e => ?_)
            refine v_iload (pc' := 1106) hc_law dL_law_1104 rfl 0 rfl ?_
            refine v_i2l (pc' := 1107) hc_law dL_law_1106 rfl ?_
            refine v_lcmp (pc' := 1108) hc_law dL_law_1107 rfl ?_
            refine v_if_eq (pt := 1113) (pf := 1111) hc_law dL_law_1108 rfl rfl e (fun _ e => ?_) (fun _ e => ?_)
            · refine v_goto (pt := 2222) hc_law dL_law_1113 rfl ?_
              refine v_iinc (pc' := 2225) (lv' := [(5, .int (x5 + 4)), (7, .int r205), (6, .int r199), (0, .ref x0), (1, .ref x1), (2, .ref x2), (3, .ref x3), (4, .ref x4)]) (v := x5 + 4) hc_law dL_law_2222 rfl 7 rfl rfl (Nat.le_of_ble_eq_true rfl) rfl ?_
              refine v_goto (pt := 28) hc_law dL_law_2225 rfl ?_
              refine v_pick [3, 4, 5, 6, 7, 0] rfl ?_
              exact IH x0 x1 x2 x3 x4 (x5 + 4) h210 e
            · refine v_iconst (pc' := 1112) (v := 0) hc_law dL_law_1111 rfl rfl ?_
              obtain ⟨rfl, rfl⟩ := ret_of e
              exact v_zret hc_law rfl (ft := .boolean) rfl dL_law_1112 rfl rfl
          · refine v_goto (pt := 2222) hc_law dL_law_1113 rfl ?_
            refine v_iinc (pc' := 2225) (lv' := [(5, .int (x5 + 4)), (7, .int r205), (6, .int r199), (0, .ref x0), (1, .ref x1), (2, .ref x2), (3, .ref x3), (4, .ref x4)]) (v := x5 + 4) hc_law dL_law_2222 rfl 7 rfl rfl (Nat.le_of_ble_eq_true rfl) rfl ?_
            refine v_goto (pt := 28) hc_law dL_law_2225 rfl ?_
            refine v_pick [3, 4, 5, 6, 7, 0] rfl ?_
            exact IH x0 x1 x2 x3 x4 (x5 + 4) h210 e
        · refine v_iconst (pc' := 1095) (v := 0) hc_law dL_law_1094 rfl rfl ?_
          obtain ⟨rfl, rfl⟩ := ret_of e
          exact v_zret hc_law rfl (ft := .boolean) rfl dL_law_1095 rfl rfl
      rcases ite_cs e with ⟨n217, e⟩ | ⟨n217, e⟩
      · refine v_tbl (off := 1072) (pt := 1116) hc_law dL_law_44 rfl rfl (by rw [n217]; rfl) rfl ?_
        refine v_aload_n (pc' := 1117) hc_law dL_law_1116 rfl rfl 1 rfl ?_
        refine v_aload_n (pc' := 1118) hc_law dL_law_1117 rfl rfl 0 rfl ?_
        refine v_iload (pc' := 1120) hc_law dL_law_1118 rfl 5 rfl ?_
        refine v_iconst (pc' := 1121) (v := 1) hc_law dL_law_1120 rfl rfl ?_
        refine v_iadd (pc' := 1122) hc_law dL_law_1121 rfl ?_
        refine v_iald (pc' := 1123) hc_law dL_law_1122 rfl e (fun v214 _ e => ?_)
        refine v_aload_n (pc' := 1124) hc_law dL_law_1123 rfl rfl 0 rfl ?_
        refine v_iload (pc' := 1126) hc_law dL_law_1124 rfl 5 rfl ?_
        refine v_iconst (pc' := 1127) (v := 2) hc_law dL_law_1126 rfl rfl ?_
        refine v_iadd (pc' := 1128) hc_law dL_law_1127 rfl ?_
        refine v_iald (pc' := 1129) hc_law dL_law_1128 rfl e (fun v215 _ e => ?_)
        refine v_aload_n (pc' := 1130) hc_law dL_law_1129 rfl rfl 0 rfl ?_
        refine v_iload (pc' := 1132) hc_law dL_law_1130 rfl 5 rfl ?_
        refine v_iconst (pc' := 1133) (v := 3) hc_law dL_law_1132 rfl rfl ?_
        refine v_iadd (pc' := 1134) hc_law dL_law_1133 rfl ?_
        refine v_iald (pc' := 1135) hc_law dL_law_1134 rfl e (fun v216 _ e => ?_)
        refine v_if_eq (pt := 1142) (pf := 1138) hc_law dL_law_1135 rfl rfl e (fun _ e => ?_) (fun _ e => ?_)
        · refine v_iconst (pc' := 1143) (v := 0) hc_law dL_law_1142 rfl rfl ?_
          exact w_law_j1143 D l hl as h0 (f_law_l28 n) IH x0 x1 x2 x3 x4 x5 x1 v214 v215 (0 : Int32) h e
        · refine v_iconst (pc' := 1139) (v := 1) hc_law dL_law_1138 rfl rfl ?_
          refine v_goto (pt := 1143) hc_law dL_law_1139 rfl ?_
          exact w_law_j1143 D l hl as h0 (f_law_l28 n) IH x0 x1 x2 x3 x4 x5 x1 v214 v215 (1 : Int32) h e
      rcases ite_cs e with ⟨n232, e⟩ | ⟨n232, e⟩
      · refine v_tbl (off := 1168) (pt := 1212) hc_law dL_law_44 rfl rfl (by rw [n232]; rfl) rfl ?_
        refine v_aload_n (pc' := 1213) hc_law dL_law_1212 rfl rfl 1 rfl ?_
        refine v_aload_n (pc' := 1214) hc_law dL_law_1213 rfl rfl 0 rfl ?_
        refine v_iload (pc' := 1216) hc_law dL_law_1214 rfl 5 rfl ?_
        refine v_iconst (pc' := 1217) (v := 1) hc_law dL_law_1216 rfl rfl ?_
        refine v_iadd (pc' := 1218) hc_law dL_law_1217 rfl ?_
        refine v_iald (pc' := 1219) hc_law dL_law_1218 rfl e (fun v218 _ e => ?_)
        refine v_aload_n (pc' := 1220) hc_law dL_law_1219 rfl rfl 3 rfl ?_
        obtain ⟨r219, h220, e221, e⟩ := bd2_of e
        refine k_SX (pc' := 1223) (x := ⟨"BlockPapersLaw", "strip", "(LBlockPapers;I[J)I"⟩) (n := 3) hc_law ho_law (w_X0_strip D l hl x1 v218 x3 h e221) (wA_l q1676) q1677 q74 q1678 hy_202 ⟨Nat.le_of_ble_eq_true rfl, Nat.le_of_ble_eq_true rfl⟩ rfl rfl (Nat.le_of_ble_eq_true rfl) dL_law_1220 rfl (kS ?_) kN
        refine v_istore (pc' := 1225) (lv' := [(6, .int r219), (0, .ref x0), (1, .ref x1), (2, .ref x2), (3, .ref x3), (4, .ref x4), (5, .int x5)]) hc_law dL_law_1223 rfl (Nat.le_of_ble_eq_true rfl) rfl ?_
        refine v_aload_n (pc' := 1226) hc_law dL_law_1225 rfl rfl 3 rfl ?_
        refine v_aload_n (pc' := 1227) hc_law dL_law_1226 rfl rfl 1 rfl ?_
        refine v_iload (pc' := 1229) hc_law dL_law_1227 rfl 6 rfl ?_
        refine v_iconst (pc' := 1230) (v := 1) hc_law dL_law_1229 rfl rfl ?_
        refine v_iadd (pc' := 1231) hc_law dL_law_1230 rfl ?_
        refine v_iald (pc' := 1232) hc_law dL_law_1231 rfl e (fun v222 _ e => ?_)
        obtain ⟨c223, e⟩ := gd_of e
        obtain ⟨r224, h225, e226, e⟩ := bd2_of e
        refine k_V (pc' := 1235) (ci := 2) (n := 1) hc_law ho_law rfl c223 (w_X3_strip D l hl x2 v222 h220 e226) (wA_l q2510) q2511 (wA_l q2512) q85 q2513 hy_204 ⟨Nat.le_of_ble_eq_true rfl, Nat.le_of_ble_eq_true rfl⟩ rfl rfl (Nat.le_of_ble_eq_true rfl) dL_law_1232 rfl (kS ?_) kN
        refine v_istore (pc' := 1237) (lv' := [(7, .int r224), (6, .int r219), (0, .ref x0), (1, .ref x1), (2, .ref x2), (3, .ref x3), (4, .ref x4), (5, .int x5)]) hc_law dL_law_1235 rfl (Nat.le_of_ble_eq_true rfl) rfl ?_
        refine v_aload_n (pc' := 1238) hc_law dL_law_1237 rfl rfl 4 rfl ?_
        obtain ⟨c227, e⟩ := gd_of e
        obtain ⟨r228, h229, e230, e⟩ := bd2_of e
        refine k_V (pc' := 1241) (ci := 2) (n := 0) hc_law ho_law rfl c227 (w_X3_thrown D l hl x2 h225 e230) (wA_l q2316) q2317 (wA_l q2318) q85 q2319 hy_126 ⟨Nat.le_of_ble_eq_true rfl, Nat.le_of_ble_eq_true rfl⟩ rfl rfl (Nat.le_of_ble_eq_true rfl) dL_law_1238 rfl (kS ?_) kN
        refine v_iload (pc' := 1243) hc_law dL_law_1241 rfl 1 rfl ?_
        refine v_icmp_eq (pt := 1248) (pf := 1246) hc_law dL_law_1243 rfl rfl e (fun _ e => ?_) (fun _ e => ?_)
        · refine v_iload (pc' := 1250) hc_law dL_law_1248 rfl 1 rfl ?_
          refine v_if_ne (pt := 1265) (pf := 1253) hc_law dL_law_1250 rfl rfl e (fun _ e => ?_) (fun _ e => ?_)
          · refine v_aload_n (pc' := 1254) hc_law dL_law_1253 rfl rfl 5 rfl ?_
            refine v_iconst (pc' := 1255) (v := 0) hc_law dL_law_1254 rfl rfl ?_
            refine v_lald (pc' := 1256) hc_law dL_law_1255 rfl e (fun v231 _ e => ?_)
            refine v_iload (pc' := 1258) hc_law dL_law_1256 rfl 0 rfl ?_
            refine v_i2l (pc' := 1259) hc_law dL_law_1258 rfl ?_
            refine v_lcmp (pc' := 1260) hc_law dL_law_1259 rfl ?_
            refine v_if_eq (pt := 1265) (pf := 1263) hc_law dL_law_1260 rfl rfl e (fun _ e => ?_) (fun _ e => ?_)
            · refine v_goto (pt := 2222) hc_law dL_law_1265 rfl ?_
              refine v_iinc (pc' := 2225) (lv' := [(5, .int (x5 + 4)), (7, .int r224), (6, .int r219), (0, .ref x0), (1, .ref x1), (2, .ref x2), (3, .ref x3), (4, .ref x4)]) (v := x5 + 4) hc_law dL_law_2222 rfl 7 rfl rfl (Nat.le_of_ble_eq_true rfl) rfl ?_
              refine v_goto (pt := 28) hc_law dL_law_2225 rfl ?_
              refine v_pick [3, 4, 5, 6, 7, 0] rfl ?_
              exact IH x0 x1 x2 x3 x4 (x5 + 4) h229 e
            · refine v_iconst (pc' := 1264) (v := 0) hc_law dL_law_1263 rfl rfl ?_
              obtain ⟨rfl, rfl⟩ := ret_of e
              exact v_zret hc_law rfl (ft := .boolean) rfl dL_law_1264 rfl rfl
          · refine v_goto (pt := 2222) hc_law dL_law_1265 rfl ?_
            refine v_iinc (pc' := 2225) (lv' := [(5, .int (x5 + 4)), (7, .int r224), (6, .int r219), (0, .ref x0), (1, .ref x1), (2, .ref x2), (3, .ref x3), (4, .ref x4)]) (v := x5 + 4) hc_law dL_law_2222 rfl 7 rfl rfl (Nat.le_of_ble_eq_true rfl) rfl ?_
            refine v_goto (pt := 28) hc_law dL_law_2225 rfl ?_
            refine v_pick [3, 4, 5, 6, 7, 0] rfl ?_
            exact IH x0 x1 x2 x3 x4 (x5 + 4) h229 e
        · refine v_iconst (pc' := 1247) (v := 0) hc_law dL_law_1246 rfl rfl ?_
          obtain ⟨rfl, rfl⟩ := ret_of e
          exact v_zret hc_law rfl (ft := .boolean) rfl dL_law_1247 rfl rfl
      rcases ite_cs e with ⟨n247, e⟩ | ⟨n247, e⟩
      · refine v_tbl (off := 1224) (pt := 1268) hc_law dL_law_44 rfl rfl (by rw [n247]; rfl) rfl ?_
        refine v_aload_n (pc' := 1269) hc_law dL_law_1268 rfl rfl 1 rfl ?_
        refine v_aload_n (pc' := 1270) hc_law dL_law_1269 rfl rfl 0 rfl ?_
        refine v_iload (pc' := 1272) hc_law dL_law_1270 rfl 5 rfl ?_
        refine v_iconst (pc' := 1273) (v := 1) hc_law dL_law_1272 rfl rfl ?_
        refine v_iadd (pc' := 1274) hc_law dL_law_1273 rfl ?_
        refine v_iald (pc' := 1275) hc_law dL_law_1274 rfl e (fun v233 _ e => ?_)
        refine v_aload_n (pc' := 1276) hc_law dL_law_1275 rfl rfl 3 rfl ?_
        obtain ⟨r234, h235, e236, e⟩ := bd2_of e
        refine k_SX (pc' := 1279) (x := ⟨"BlockPapersLaw", "isMatched", "(LBlockPapers;I[J)I"⟩) (n := 3) hc_law ho_law (w_X0_isMatched D l hl x1 v233 x3 h e236) (wA_l q1684) q1685 q74 q1686 hy_206 ⟨Nat.le_of_ble_eq_true rfl, Nat.le_of_ble_eq_true rfl⟩ rfl rfl (Nat.le_of_ble_eq_true rfl) dL_law_1276 rfl (kS ?_) kN
        refine v_istore (pc' := 1281) (lv' := [(6, .int r234), (0, .ref x0), (1, .ref x1), (2, .ref x2), (3, .ref x3), (4, .ref x4), (5, .int x5)]) hc_law dL_law_1279 rfl (Nat.le_of_ble_eq_true rfl) rfl ?_
        refine v_aload_n (pc' := 1282) hc_law dL_law_1281 rfl rfl 3 rfl ?_
        refine v_aload_n (pc' := 1283) hc_law dL_law_1282 rfl rfl 1 rfl ?_
        refine v_iload (pc' := 1285) hc_law dL_law_1283 rfl 6 rfl ?_
        refine v_iconst (pc' := 1286) (v := 1) hc_law dL_law_1285 rfl rfl ?_
        refine v_iadd (pc' := 1287) hc_law dL_law_1286 rfl ?_
        refine v_iald (pc' := 1288) hc_law dL_law_1287 rfl e (fun v237 _ e => ?_)
        obtain ⟨c238, e⟩ := gd_of e
        obtain ⟨r239, h240, e241, e⟩ := bd2_of e
        refine k_V (pc' := 1291) (ci := 2) (n := 1) hc_law ho_law rfl c238 (w_X3_isMatched D l hl x2 v237 h235 e241) (wA_l q2518) q2519 (wA_l q2520) q85 q2521 hy_207 ⟨Nat.le_of_ble_eq_true rfl, Nat.le_of_ble_eq_true rfl⟩ rfl rfl (Nat.le_of_ble_eq_true rfl) dL_law_1288 rfl (kS ?_) kN
        refine v_istore (pc' := 1293) (lv' := [(7, .int r239), (6, .int r234), (0, .ref x0), (1, .ref x1), (2, .ref x2), (3, .ref x3), (4, .ref x4), (5, .int x5)]) hc_law dL_law_1291 rfl (Nat.le_of_ble_eq_true rfl) rfl ?_
        refine v_aload_n (pc' := 1294) hc_law dL_law_1293 rfl rfl 4 rfl ?_
        obtain ⟨c242, e⟩ := gd_of e
        obtain ⟨r243, h244, e245, e⟩ := bd2_of e
        refine k_V (pc' := 1297) (ci := 2) (n := 0) hc_law ho_law rfl c242 (w_X3_thrown D l hl x2 h240 e245) (wA_l q2316) q2317 (wA_l q2318) q85 q2319 hy_126 ⟨Nat.le_of_ble_eq_true rfl, Nat.le_of_ble_eq_true rfl⟩ rfl rfl (Nat.le_of_ble_eq_true rfl) dL_law_1294 rfl (kS ?_) kN
        refine v_iload (pc' := 1299) hc_law dL_law_1297 rfl 1 rfl ?_
        refine v_icmp_eq (pt := 1304) (pf := 1302) hc_law dL_law_1299 rfl rfl e (fun _ e => ?_) (fun _ e => ?_)
        · refine v_iload (pc' := 1306) hc_law dL_law_1304 rfl 1 rfl ?_
          refine v_if_ne (pt := 1328) (pf := 1309) hc_law dL_law_1306 rfl rfl e (fun _ e => ?_) (fun _ e => ?_)
          · refine v_aload_n (pc' := 1310) hc_law dL_law_1309 rfl rfl 5 rfl ?_
            refine v_iconst (pc' := 1311) (v := 0) hc_law dL_law_1310 rfl rfl ?_
            refine v_lald (pc' := 1312) hc_law dL_law_1311 rfl e (fun v246 _ e => ?_)
            refine v_iload (pc' := 1314) hc_law dL_law_1312 rfl 0 rfl ?_
            refine v_if_eq (pt := 1321) (pf := 1317) hc_law dL_law_1314 rfl rfl e (fun _ e => ?_) (fun _ e => ?_)
            · refine v_lconst (pc' := 1322) (v := 0) hc_law dL_law_1321 rfl rfl ?_
              refine v_lcmp (pc' := 1323) hc_law dL_law_1322 rfl ?_
              refine v_if_eq (pt := 1328) (pf := 1326) hc_law dL_law_1323 rfl rfl e (fun _ e => ?_) (fun _ e => ?_)
              · refine v_goto (pt := 2222) hc_law dL_law_1328 rfl ?_
                refine v_iinc (pc' := 2225) (lv' := [(5, .int (x5 + 4)), (7, .int r239), (6, .int r234), (0, .ref x0), (1, .ref x1), (2, .ref x2), (3, .ref x3), (4, .ref x4)]) (v := x5 + 4) hc_law dL_law_2222 rfl 7 rfl rfl (Nat.le_of_ble_eq_true rfl) rfl ?_
                refine v_goto (pt := 28) hc_law dL_law_2225 rfl ?_
                refine v_pick [3, 4, 5, 6, 7, 0] rfl ?_
                exact IH x0 x1 x2 x3 x4 (x5 + 4) h244 e
              · refine v_iconst (pc' := 1327) (v := 0) hc_law dL_law_1326 rfl rfl ?_
                obtain ⟨rfl, rfl⟩ := ret_of e
                exact v_zret hc_law rfl (ft := .boolean) rfl dL_law_1327 rfl rfl
            · refine v_lconst (pc' := 1318) (v := 1) hc_law dL_law_1317 rfl rfl ?_
              refine v_goto (pt := 1322) hc_law dL_law_1318 rfl ?_
              refine v_lcmp (pc' := 1323) hc_law dL_law_1322 rfl ?_
              refine v_if_eq (pt := 1328) (pf := 1326) hc_law dL_law_1323 rfl rfl e (fun _ e => ?_) (fun _ e => ?_)
              · refine v_goto (pt := 2222) hc_law dL_law_1328 rfl ?_
                refine v_iinc (pc' := 2225) (lv' := [(5, .int (x5 + 4)), (7, .int r239), (6, .int r234), (0, .ref x0), (1, .ref x1), (2, .ref x2), (3, .ref x3), (4, .ref x4)]) (v := x5 + 4) hc_law dL_law_2222 rfl 7 rfl rfl (Nat.le_of_ble_eq_true rfl) rfl ?_
                refine v_goto (pt := 28) hc_law dL_law_2225 rfl ?_
                refine v_pick [3, 4, 5, 6, 7, 0] rfl ?_
                exact IH x0 x1 x2 x3 x4 (x5 + 4) h244 e
              · refine v_iconst (pc' := 1327) (v := 0) hc_law dL_law_1326 rfl rfl ?_
                obtain ⟨rfl, rfl⟩ := ret_of e
                exact v_zret hc_law rfl (ft := .boolean) rfl dL_law_1327 rfl rfl
          · refine v_goto (pt := 2222) hc_law dL_law_1328 rfl ?_
            refine v_iinc (pc' := 2225) (lv' := [(5, .int (x5 + 4)), (7, .int r239), (6, .int r234), (0, .ref x0), (1, .ref x1), (2, .ref x2), (3, .ref x3), (4, .ref x4)]) (v := x5 + 4) hc_law dL_law_2222 rfl 7 rfl rfl (Nat.le_of_ble_eq_true rfl) rfl ?_
            refine v_goto (pt := 28) hc_law dL_law_2225 rfl ?_
            refine v_pick [3, 4, 5, 6, 7, 0] rfl ?_
            exact IH x0 x1 x2 x3 x4 (x5 + 4) h244 e
        · refine v_iconst (pc' := 1303) (v := 0) hc_law dL_law_1302 rfl rfl ?_
          obtain ⟨rfl, rfl⟩ := ret_of e
          exact v_zret hc_law rfl (ft := .boolean) rfl dL_law_1303 rfl rfl
      rcases ite_cs e with ⟨n262, e⟩ | ⟨n262, e⟩
      · refine v_tbl (off := 1287) (pt := 1331) hc_law dL_law_44 rfl rfl (by rw [n262]; rfl) rfl ?_
        refine v_aload_n (pc' := 1332) hc_law dL_law_1331 rfl rfl 1 rfl ?_
        refine v_aload_n (pc' := 1333) hc_law dL_law_1332 rfl rfl 0 rfl ?_
        refine v_iload (pc' := 1335) hc_law dL_law_1333 rfl 5 rfl ?_
        refine v_iconst (pc' := 1336) (v := 1) hc_law dL_law_1335 rfl rfl ?_
        refine v_iadd (pc' := 1337) hc_law dL_law_1336 rfl ?_
        refine v_iald (pc' := 1338) hc_law dL_law_1337 rfl e (fun v248 _ e => ?_)
        refine v_aload_n (pc' := 1339) hc_law dL_law_1338 rfl rfl 3 rfl ?_
        obtain ⟨r249, h250, e251, e⟩ := bd2_of e
        refine k_SX (pc' := 1342) (x := ⟨"BlockPapersLaw", "bestRoll", "(LBlockPapers;I[J)I"⟩) (n := 3) hc_law ho_law (w_X0_bestRoll D l hl x1 v248 x3 h e251) (wA_l q1691) q1692 q74 q1693 hy_209 ⟨Nat.le_of_ble_eq_true rfl, Nat.le_of_ble_eq_true rfl⟩ rfl rfl (Nat.le_of_ble_eq_true rfl) dL_law_1339 rfl (kS ?_) kN
        refine v_istore (pc' := 1344) (lv' := [(6, .int r249), (0, .ref x0), (1, .ref x1), (2, .ref x2), (3, .ref x3), (4, .ref x4), (5, .int x5)]) hc_law dL_law_1342 rfl (Nat.le_of_ble_eq_true rfl) rfl ?_
        refine v_aload_n (pc' := 1345) hc_law dL_law_1344 rfl rfl 3 rfl ?_
        refine v_aload_n (pc' := 1346) hc_law dL_law_1345 rfl rfl 1 rfl ?_
        refine v_iload (pc' := 1348) hc_law dL_law_1346 rfl 6 rfl ?_
        refine v_iconst (pc' := 1349) (v := 1) hc_law dL_law_1348 rfl rfl ?_
        refine v_iadd (pc' := 1350) hc_law dL_law_1349 rfl ?_
        refine v_iald (pc' := 1351) hc_law dL_law_1350 rfl e (fun v252 _ e => ?_)
        obtain ⟨c253, e⟩ := gd_of e
        obtain ⟨r254, h255, e256, e⟩ := bd2_of e
        refine k_V (pc' := 1354) (ci := 2) (n := 1) hc_law ho_law rfl c253 (w_X3_bestRoll D l hl x2 v252 h250 e256) (wA_l q2522) q2523 (wA_l q2524) q85 q2525 hy_211 ⟨Nat.le_of_ble_eq_true rfl, Nat.le_of_ble_eq_true rfl⟩ rfl rfl (Nat.le_of_ble_eq_true rfl) dL_law_1351 rfl (kS ?_) kN
        refine v_istore (pc' := 1356) (lv' := [(7, .int r254), (6, .int r249), (0, .ref x0), (1, .ref x1), (2, .ref x2), (3, .ref x3), (4, .ref x4), (5, .int x5)]) hc_law dL_law_1354 rfl (Nat.le_of_ble_eq_true rfl) rfl ?_
        refine v_aload_n (pc' := 1357) hc_law dL_law_1356 rfl rfl 4 rfl ?_
        obtain ⟨c257, e⟩ := gd_of e
        obtain ⟨r258, h259, e260, e⟩ := bd2_of e
        refine k_V (pc' := 1360) (ci := 2) (n := 0) hc_law ho_law rfl c257 (w_X3_thrown D l hl x2 h255 e260) (wA_l q2316) q2317 (wA_l q2318) q85 q2319 hy_126 ⟨Nat.le_of_ble_eq_true rfl, Nat.le_of_ble_eq_true rfl⟩ rfl rfl (Nat.le_of_ble_eq_true rfl) dL_law_1357 rfl (kS ?_) kN
        refine v_iload (pc' := 1362) hc_law dL_law_1360 rfl 1 rfl ?_
        refine v_icmp_eq (pt := 1367) (pf := 1365) hc_law dL_law_1362 rfl rfl e (fun _ e => ?_) (fun _ e => ?_)
        · refine v_iload (pc' := 1369) hc_law dL_law_1367 rfl 1 rfl ?_
          refine v_if_ne (pt := 1384) (pf := 1372) hc_law dL_law_1369 rfl rfl e (fun _ e => ?_) (fun _ e => ?_)
          · refine v_aload_n (pc' := 1373) hc_law dL_law_1372 rfl rfl 5 rfl ?_
            refine v_iconst (pc' := 1374) (v := 0) hc_law dL_law_1373 rfl rfl ?_
            refine v_lald (pc' := 1375) hc_law dL_law_1374 rfl e (fun v261 _ e => ?_)
            refine v_iload (pc' := 1377) hc_law dL_law_1375 rfl 0 rfl ?_
            refine v_i2l (pc' := 1378) hc_law dL_law_1377 rfl ?_
            refine v_lcmp (pc' := 1379) hc_law dL_law_1378 rfl ?_
            refine v_if_eq (pt := 1384) (pf := 1382) hc_law dL_law_1379 rfl rfl e (fun _ e => ?_) (fun _ e => ?_)
            · refine v_goto (pt := 2222) hc_law dL_law_1384 rfl ?_
              refine v_iinc (pc' := 2225) (lv' := [(5, .int (x5 + 4)), (7, .int r254), (6, .int r249), (0, .ref x0), (1, .ref x1), (2, .ref x2), (3, .ref x3), (4, .ref x4)]) (v := x5 + 4) hc_law dL_law_2222 rfl 7 rfl rfl (Nat.le_of_ble_eq_true rfl) rfl ?_
              refine v_goto (pt := 28) hc_law dL_law_2225 rfl ?_
              refine v_pick [3, 4, 5, 6, 7, 0] rfl ?_
              exact IH x0 x1 x2 x3 x4 (x5 + 4) h259 e
            · refine v_iconst (pc' := 1383) (v := 0) hc_law dL_law_1382 rfl rfl ?_
              obtain ⟨rfl, rfl⟩ := ret_of e
              exact v_zret hc_law rfl (ft := .boolean) rfl dL_law_1383 rfl rfl
          · refine v_goto (pt := 2222) hc_law dL_law_1384 rfl ?_
            refine v_iinc (pc' := 2225) (lv' := [(5, .int (x5 + 4)), (7, .int r254), (6, .int r249), (0, .ref x0), (1, .ref x1), (2, .ref x2), (3, .ref x3), (4, .ref x4)]) (v := x5 + 4) hc_law dL_law_2222 rfl 7 rfl rfl (Nat.le_of_ble_eq_true rfl) rfl ?_
            refine v_goto (pt := 28) hc_law dL_law_2225 rfl ?_
            refine v_pick [3, 4, 5, 6, 7, 0] rfl ?_
            exact IH x0 x1 x2 x3 x4 (x5 + 4) h259 e
        · refine v_iconst (pc' := 1366) (v := 0) hc_law dL_law_1365 rfl rfl ?_
          obtain ⟨rfl, rfl⟩ := ret_of e
          exact v_zret hc_law rfl (ft := .boolean) rfl dL_law_1366 rfl rfl
      rcases ite_cs e with ⟨n277, e⟩ | ⟨n277, e⟩
      · refine v_tbl (off := 1343) (pt := 1387) hc_law dL_law_44 rfl rfl (by rw [n277]; rfl) rfl ?_
        refine v_aload_n (pc' := 1388) hc_law dL_law_1387 rfl rfl 1 rfl ?_
        refine v_aload_n (pc' := 1389) hc_law dL_law_1388 rfl rfl 0 rfl ?_
        refine v_iload (pc' := 1391) hc_law dL_law_1389 rfl 5 rfl ?_
        refine v_iconst (pc' := 1392) (v := 1) hc_law dL_law_1391 rfl rfl ?_
        refine v_iadd (pc' := 1393) hc_law dL_law_1392 rfl ?_
        refine v_iald (pc' := 1394) hc_law dL_law_1393 rfl e (fun v263 _ e => ?_)
        refine v_aload_n (pc' := 1395) hc_law dL_law_1394 rfl rfl 3 rfl ?_
        obtain ⟨r264, h265, e266, e⟩ := bd2_of e
        refine k_SX (pc' := 1398) (x := ⟨"BlockPapersLaw", "finish", "(LBlockPapers;I[J)I"⟩) (n := 3) hc_law ho_law (w_X0_finish D l hl x1 v263 x3 h e266) (wA_l q1699) q1700 q74 q1701 hy_213 ⟨Nat.le_of_ble_eq_true rfl, Nat.le_of_ble_eq_true rfl⟩ rfl rfl (Nat.le_of_ble_eq_true rfl) dL_law_1395 rfl (kS ?_) kN
        refine v_istore (pc' := 1400) (lv' := [(6, .int r264), (0, .ref x0), (1, .ref x1), (2, .ref x2), (3, .ref x3), (4, .ref x4), (5, .int x5)]) hc_law dL_law_1398 rfl (Nat.le_of_ble_eq_true rfl) rfl ?_
        refine v_aload_n (pc' := 1401) hc_law dL_law_1400 rfl rfl 3 rfl ?_
        refine v_aload_n (pc' := 1402) hc_law dL_law_1401 rfl rfl 1 rfl ?_
        refine v_iload (pc' := 1404) hc_law dL_law_1402 rfl 6 rfl ?_
        refine v_iconst (pc' := 1405) (v := 1) hc_law dL_law_1404 rfl rfl ?_
        refine v_iadd (pc' := 1406) hc_law dL_law_1405 rfl ?_
        refine v_iald (pc' := 1407) hc_law dL_law_1406 rfl e (fun v267 _ e => ?_)
        obtain ⟨c268, e⟩ := gd_of e
        obtain ⟨r269, h270, e271, e⟩ := bd2_of e
        refine k_V (pc' := 1410) (ci := 2) (n := 1) hc_law ho_law rfl c268 (w_X3_finish D l hl x2 v267 h265 e271) (wA_l q2530) q2531 (wA_l q2532) q85 q2533 hy_215 ⟨Nat.le_of_ble_eq_true rfl, Nat.le_of_ble_eq_true rfl⟩ rfl rfl (Nat.le_of_ble_eq_true rfl) dL_law_1407 rfl (kS ?_) kN
        refine v_istore (pc' := 1412) (lv' := [(7, .int r269), (6, .int r264), (0, .ref x0), (1, .ref x1), (2, .ref x2), (3, .ref x3), (4, .ref x4), (5, .int x5)]) hc_law dL_law_1410 rfl (Nat.le_of_ble_eq_true rfl) rfl ?_
        refine v_aload_n (pc' := 1413) hc_law dL_law_1412 rfl rfl 4 rfl ?_
        obtain ⟨c272, e⟩ := gd_of e
        obtain ⟨r273, h274, e275, e⟩ := bd2_of e
        refine k_V (pc' := 1416) (ci := 2) (n := 0) hc_law ho_law rfl c272 (w_X3_thrown D l hl x2 h270 e275) (wA_l q2316) q2317 (wA_l q2318) q85 q2319 hy_126 ⟨Nat.le_of_ble_eq_true rfl, Nat.le_of_ble_eq_true rfl⟩ rfl rfl (Nat.le_of_ble_eq_true rfl) dL_law_1413 rfl (kS ?_) kN
        refine v_iload (pc' := 1418) hc_law dL_law_1416 rfl 1 rfl ?_
        refine v_icmp_eq (pt := 1423) (pf := 1421) hc_law dL_law_1418 rfl rfl e (fun _ e => ?_) (fun _ e => ?_)
        · refine v_iload (pc' := 1425) hc_law dL_law_1423 rfl 1 rfl ?_
          refine v_if_ne (pt := 1440) (pf := 1428) hc_law dL_law_1425 rfl rfl e (fun _ e => ?_) (fun _ e => ?_)
          · refine v_aload_n (pc' := 1429) hc_law dL_law_1428 rfl rfl 5 rfl ?_
            refine v_iconst (pc' := 1430) (v := 0) hc_law dL_law_1429 rfl rfl ?_
            refine v_lald (pc' := 1431) hc_law dL_law_1430 rfl e (fun v276 _ e => ?_)
            refine v_iload (pc' := 1433) hc_law dL_law_1431 rfl 0 rfl ?_
            refine v_i2l (pc' := 1434) hc_law dL_law_1433 rfl ?_
            refine v_lcmp (pc' := 1435) hc_law dL_law_1434 rfl ?_
            refine v_if_eq (pt := 1440) (pf := 1438) hc_law dL_law_1435 rfl rfl e (fun _ e => ?_) (fun _ e => ?_)
            · refine v_goto (pt := 2222) hc_law dL_law_1440 rfl ?_
              refine v_iinc (pc' := 2225) (lv' := [(5, .int (x5 + 4)), (7, .int r269), (6, .int r264), (0, .ref x0), (1, .ref x1), (2, .ref x2), (3, .ref x3), (4, .ref x4)]) (v := x5 + 4) hc_law dL_law_2222 rfl 7 rfl rfl (Nat.le_of_ble_eq_true rfl) rfl ?_
              refine v_goto (pt := 28) hc_law dL_law_2225 rfl ?_
              refine v_pick [3, 4, 5, 6, 7, 0] rfl ?_
              exact IH x0 x1 x2 x3 x4 (x5 + 4) h274 e
            · refine v_iconst (pc' := 1439) (v := 0) hc_law dL_law_1438 rfl rfl ?_
              obtain ⟨rfl, rfl⟩ := ret_of e
              exact v_zret hc_law rfl (ft := .boolean) rfl dL_law_1439 rfl rfl
          · refine v_goto (pt := 2222) hc_law dL_law_1440 rfl ?_
            refine v_iinc (pc' := 2225) (lv' := [(5, .int (x5 + 4)), (7, .int r269), (6, .int r264), (0, .ref x0), (1, .ref x1), (2, .ref x2), (3, .ref x3), (4, .ref x4)]) (v := x5 + 4) hc_law dL_law_2222 rfl 7 rfl rfl (Nat.le_of_ble_eq_true rfl) rfl ?_
            refine v_goto (pt := 28) hc_law dL_law_2225 rfl ?_
            refine v_pick [3, 4, 5, 6, 7, 0] rfl ?_
            exact IH x0 x1 x2 x3 x4 (x5 + 4) h274 e
        · refine v_iconst (pc' := 1422) (v := 0) hc_law dL_law_1421 rfl rfl ?_
          obtain ⟨rfl, rfl⟩ := ret_of e
          exact v_zret hc_law rfl (ft := .boolean) rfl dL_law_1422 rfl rfl
      rcases ite_cs e with ⟨n294, e⟩ | ⟨n294, e⟩
      · refine v_tbl (off := 1399) (pt := 1443) hc_law dL_law_44 rfl rfl (by rw [n294]; rfl) rfl ?_
        refine v_aload_n (pc' := 1444) hc_law dL_law_1443 rfl rfl 1 rfl ?_
        refine v_aload_n (pc' := 1445) hc_law dL_law_1444 rfl rfl 0 rfl ?_
        refine v_iload (pc' := 1447) hc_law dL_law_1445 rfl 5 rfl ?_
        refine v_iconst (pc' := 1448) (v := 1) hc_law dL_law_1447 rfl rfl ?_
        refine v_iadd (pc' := 1449) hc_law dL_law_1448 rfl ?_
        refine v_iald (pc' := 1450) hc_law dL_law_1449 rfl e (fun v278 _ e => ?_)
        refine v_aload_n (pc' := 1451) hc_law dL_law_1450 rfl rfl 0 rfl ?_
        refine v_iload (pc' := 1453) hc_law dL_law_1451 rfl 5 rfl ?_
        refine v_iconst (pc' := 1454) (v := 2) hc_law dL_law_1453 rfl rfl ?_
        refine v_iadd (pc' := 1455) hc_law dL_law_1454 rfl ?_
        refine v_iald (pc' := 1456) hc_law dL_law_1455 rfl e (fun v279 _ e => ?_)
        refine v_aload_n (pc' := 1457) hc_law dL_law_1456 rfl rfl 3 rfl ?_
        obtain ⟨r280, h281, e282, e⟩ := bd2_of e
        refine k_SX (pc' := 1460) (x := ⟨"BlockPapersLaw", "dropsFrom", "(LBlockPapers;II[J)I"⟩) (n := 4) hc_law ho_law (w_X0_dropsFrom D l hl x1 v278 v279 x3 h e282) (wA_l q1707) q1708 q74 q1709 hy_218 ⟨Nat.le_of_ble_eq_true rfl, Nat.le_of_ble_eq_true rfl⟩ rfl rfl (Nat.le_of_ble_eq_true rfl) dL_law_1457 rfl (kS ?_) kN
        refine v_istore (pc' := 1462) (lv' := [(6, .int r280), (0, .ref x0), (1, .ref x1), (2, .ref x2), (3, .ref x3), (4, .ref x4), (5, .int x5)]) hc_law dL_law_1460 rfl (Nat.le_of_ble_eq_true rfl) rfl ?_
        refine v_aload_n (pc' := 1463) hc_law dL_law_1462 rfl rfl 3 rfl ?_
        refine v_aload_n (pc' := 1464) hc_law dL_law_1463 rfl rfl 1 rfl ?_
        refine v_iload (pc' := 1466) hc_law dL_law_1464 rfl 6 rfl ?_
        refine v_iconst (pc' := 1467) (v := 1) hc_law dL_law_1466 rfl rfl ?_
        refine v_iadd (pc' := 1468) hc_law dL_law_1467 rfl ?_
        refine v_iald (pc' := 1469) hc_law dL_law_1468 rfl e (fun v283 _ e => ?_)
        refine v_aload_n (pc' := 1470) hc_law dL_law_1469 rfl rfl 1 rfl ?_
        refine v_iload (pc' := 1472) hc_law dL_law_1470 rfl 6 rfl ?_
        refine v_iconst (pc' := 1473) (v := 2) hc_law dL_law_1472 rfl rfl ?_
        refine v_iadd (pc' := 1474) hc_law dL_law_1473 rfl ?_
        refine v_iald (pc' := 1475) hc_law dL_law_1474 rfl e (fun v284 _ e => ?_)
        obtain ⟨c285, e⟩ := gd_of e
        obtain ⟨r286, h287, e288, e⟩ := bd2_of e
        refine k_V (pc' := 1478) (ci := 2) (n := 2) hc_law ho_law rfl c285 (w_X3_dropsFrom D l hl x2 v283 v284 h281 e288) (wA_l q2538) q2539 (wA_l q2540) q85 q2541 hy_219 ⟨Nat.le_of_ble_eq_true rfl, Nat.le_of_ble_eq_true rfl⟩ rfl rfl (Nat.le_of_ble_eq_true rfl) dL_law_1475 rfl (kS ?_) kN
        refine v_istore (pc' := 1480) (lv' := [(7, .int r286), (6, .int r280), (0, .ref x0), (1, .ref x1), (2, .ref x2), (3, .ref x3), (4, .ref x4), (5, .int x5)]) hc_law dL_law_1478 rfl (Nat.le_of_ble_eq_true rfl) rfl ?_
        refine v_aload_n (pc' := 1481) hc_law dL_law_1480 rfl rfl 4 rfl ?_
        obtain ⟨c289, e⟩ := gd_of e
        obtain ⟨r290, h291, e292, e⟩ := bd2_of e
        refine k_V (pc' := 1484) (ci := 2) (n := 0) hc_law ho_law rfl c289 (w_X3_thrown D l hl x2 h287 e292) (wA_l q2316) q2317 (wA_l q2318) q85 q2319 hy_126 ⟨Nat.le_of_ble_eq_true rfl, Nat.le_of_ble_eq_true rfl⟩ rfl rfl (Nat.le_of_ble_eq_true rfl) dL_law_1481 rfl (kS ?_) kN
        refine v_iload (pc' := 1486) hc_law dL_law_1484 rfl 1 rfl ?_
        refine v_icmp_eq (pt := 1491) (pf := 1489) hc_law dL_law_1486 rfl rfl e (fun _ e => ?_) (fun _ e => ?_)
        · refine v_iload (pc' := 1493) hc_law dL_law_1491 rfl 1 rfl ?_
          refine v_if_ne (pt := 1508) (pf := 1496) hc_law dL_law_1493 rfl rfl e (fun _ e => ?_) (fun _ e => ?_)
          · refine v_aload_n (pc' := 1497) hc_law dL_law_1496 rfl rfl 5 rfl ?_
            refine v_iconst (pc' := 1498) (v := 0) hc_law dL_law_1497 rfl rfl ?_
            refine v_lald (pc' := 1499) hc_law dL_law_1498 rfl e (fun v293 _ e => ?_)
            refine v_iload (pc' := 1501) hc_law dL_law_1499 rfl 0 rfl ?_
            refine v_i2l (pc' := 1502) hc_law dL_law_1501 rfl ?_
            refine v_lcmp (pc' := 1503) hc_law dL_law_1502 rfl ?_
            refine v_if_eq (pt := 1508) (pf := 1506) hc_law dL_law_1503 rfl rfl e (fun _ e => ?_) (fun _ e => ?_)
            · refine v_goto (pt := 2222) hc_law dL_law_1508 rfl ?_
              refine v_iinc (pc' := 2225) (lv' := [(5, .int (x5 + 4)), (7, .int r286), (6, .int r280), (0, .ref x0), (1, .ref x1), (2, .ref x2), (3, .ref x3), (4, .ref x4)]) (v := x5 + 4) hc_law dL_law_2222 rfl 7 rfl rfl (Nat.le_of_ble_eq_true rfl) rfl ?_
              refine v_goto (pt := 28) hc_law dL_law_2225 rfl ?_
              refine v_pick [3, 4, 5, 6, 7, 0] rfl ?_
              exact IH x0 x1 x2 x3 x4 (x5 + 4) h291 e
            · refine v_iconst (pc' := 1507) (v := 0) hc_law dL_law_1506 rfl rfl ?_
              obtain ⟨rfl, rfl⟩ := ret_of e
              exact v_zret hc_law rfl (ft := .boolean) rfl dL_law_1507 rfl rfl
          · refine v_goto (pt := 2222) hc_law dL_law_1508 rfl ?_
            refine v_iinc (pc' := 2225) (lv' := [(5, .int (x5 + 4)), (7, .int r286), (6, .int r280), (0, .ref x0), (1, .ref x1), (2, .ref x2), (3, .ref x3), (4, .ref x4)]) (v := x5 + 4) hc_law dL_law_2222 rfl 7 rfl rfl (Nat.le_of_ble_eq_true rfl) rfl ?_
            refine v_goto (pt := 28) hc_law dL_law_2225 rfl ?_
            refine v_pick [3, 4, 5, 6, 7, 0] rfl ?_
            exact IH x0 x1 x2 x3 x4 (x5 + 4) h291 e
        · refine v_iconst (pc' := 1490) (v := 0) hc_law dL_law_1489 rfl rfl ?_
          obtain ⟨rfl, rfl⟩ := ret_of e
          exact v_zret hc_law rfl (ft := .boolean) rfl dL_law_1490 rfl rfl
      rcases ite_cs e with ⟨n311, e⟩ | ⟨n311, e⟩
      · refine v_tbl (off := 1467) (pt := 1511) hc_law dL_law_44 rfl rfl (by rw [n311]; rfl) rfl ?_
        refine v_aload_n (pc' := 1512) hc_law dL_law_1511 rfl rfl 1 rfl ?_
        refine v_aload_n (pc' := 1513) hc_law dL_law_1512 rfl rfl 0 rfl ?_
        refine v_iload (pc' := 1515) hc_law dL_law_1513 rfl 5 rfl ?_
        refine v_iconst (pc' := 1516) (v := 1) hc_law dL_law_1515 rfl rfl ?_
        refine v_iadd (pc' := 1517) hc_law dL_law_1516 rfl ?_
        refine v_iald (pc' := 1518) hc_law dL_law_1517 rfl e (fun v295 _ e => ?_)
        refine v_aload_n (pc' := 1519) hc_law dL_law_1518 rfl rfl 0 rfl ?_
        refine v_iload (pc' := 1521) hc_law dL_law_1519 rfl 5 rfl ?_
        refine v_iconst (pc' := 1522) (v := 2) hc_law dL_law_1521 rfl rfl ?_
        refine v_iadd (pc' := 1523) hc_law dL_law_1522 rfl ?_
        refine v_iald (pc' := 1524) hc_law dL_law_1523 rfl e (fun v296 _ e => ?_)
        refine v_aload_n (pc' := 1525) hc_law dL_law_1524 rfl rfl 3 rfl ?_
        obtain ⟨r297, h298, e299, e⟩ := bd2_of e
        refine k_SX (pc' := 1528) (x := ⟨"BlockPapersLaw", "dropsAgain", "(LBlockPapers;II[J)I"⟩) (n := 4) hc_law ho_law (w_X0_dropsAgain D l hl x1 v295 v296 x3 h e299) (wA_l q1718) q1719 q74 q1720 hy_221 ⟨Nat.le_of_ble_eq_true rfl, Nat.le_of_ble_eq_true rfl⟩ rfl rfl (Nat.le_of_ble_eq_true rfl) dL_law_1525 rfl (kS ?_) kN
        refine v_istore (pc' := 1530) (lv' := [(6, .int r297), (0, .ref x0), (1, .ref x1), (2, .ref x2), (3, .ref x3), (4, .ref x4), (5, .int x5)]) hc_law dL_law_1528 rfl (Nat.le_of_ble_eq_true rfl) rfl ?_
        refine v_aload_n (pc' := 1531) hc_law dL_law_1530 rfl rfl 3 rfl ?_
        refine v_aload_n (pc' := 1532) hc_law dL_law_1531 rfl rfl 1 rfl ?_
        refine v_iload (pc' := 1534) hc_law dL_law_1532 rfl 6 rfl ?_
        refine v_iconst (pc' := 1535) (v := 1) hc_law dL_law_1534 rfl rfl ?_
        refine v_iadd (pc' := 1536) hc_law dL_law_1535 rfl ?_
        refine v_iald (pc' := 1537) hc_law dL_law_1536 rfl e (fun v300 _ e => ?_)
        refine v_aload_n (pc' := 1538) hc_law dL_law_1537 rfl rfl 1 rfl ?_
        refine v_iload (pc' := 1540) hc_law dL_law_1538 rfl 6 rfl ?_
        refine v_iconst (pc' := 1541) (v := 2) hc_law dL_law_1540 rfl rfl ?_
        refine v_iadd (pc' := 1542) hc_law dL_law_1541 rfl ?_
        refine v_iald (pc' := 1543) hc_law dL_law_1542 rfl e (fun v301 _ e => ?_)
        obtain ⟨c302, e⟩ := gd_of e
        obtain ⟨r303, h304, e305, e⟩ := bd2_of e
        refine k_V (pc' := 1546) (ci := 2) (n := 2) hc_law ho_law rfl c302 (w_X3_dropsAgain D l hl x2 v300 v301 h298 e305) (wA_l q2542) q2543 (wA_l q2544) q85 q2545 hy_222 ⟨Nat.le_of_ble_eq_true rfl, Nat.le_of_ble_eq_true rfl⟩ rfl rfl (Nat.le_of_ble_eq_true rfl) dL_law_1543 rfl (kS ?_) kN
        refine v_istore (pc' := 1548) (lv' := [(7, .int r303), (6, .int r297), (0, .ref x0), (1, .ref x1), (2, .ref x2), (3, .ref x3), (4, .ref x4), (5, .int x5)]) hc_law dL_law_1546 rfl (Nat.le_of_ble_eq_true rfl) rfl ?_
        refine v_aload_n (pc' := 1549) hc_law dL_law_1548 rfl rfl 4 rfl ?_
        obtain ⟨c306, e⟩ := gd_of e
        obtain ⟨r307, h308, e309, e⟩ := bd2_of e
        refine k_V (pc' := 1552) (ci := 2) (n := 0) hc_law ho_law rfl c306 (w_X3_thrown D l hl x2 h304 e309) (wA_l q2316) q2317 (wA_l q2318) q85 q2319 hy_126 ⟨Nat.le_of_ble_eq_true rfl, Nat.le_of_ble_eq_true rfl⟩ rfl rfl (Nat.le_of_ble_eq_true rfl) dL_law_1549 rfl (kS ?_) kN
        refine v_iload (pc' := 1554) hc_law dL_law_1552 rfl 1 rfl ?_
        refine v_icmp_eq (pt := 1559) (pf := 1557) hc_law dL_law_1554 rfl rfl e (fun _ e => ?_) (fun _ e => ?_)
        · refine v_iload (pc' := 1561) hc_law dL_law_1559 rfl 1 rfl ?_
          refine v_if_ne (pt := 1576) (pf := 1564) hc_law dL_law_1561 rfl rfl e (fun _ e => ?_) (fun _ e => ?_)
          · refine v_aload_n (pc' := 1565) hc_law dL_law_1564 rfl rfl 5 rfl ?_
            refine v_iconst (pc' := 1566) (v := 0) hc_law dL_law_1565 rfl rfl ?_
            refine v_lald (pc' := 1567) hc_law dL_law_1566 rfl e (fun v310 _ e => ?_)
            refine v_iload (pc' := 1569) hc_law dL_law_1567 rfl 0 rfl ?_
            refine v_i2l (pc' := 1570) hc_law dL_law_1569 rfl ?_
            refine v_lcmp (pc' := 1571) hc_law dL_law_1570 rfl ?_
            refine v_if_eq (pt := 1576) (pf := 1574) hc_law dL_law_1571 rfl rfl e (fun _ e => ?_) (fun _ e => ?_)
            · refine v_goto (pt := 2222) hc_law dL_law_1576 rfl ?_
              refine v_iinc (pc' := 2225) (lv' := [(5, .int (x5 + 4)), (7, .int r303), (6, .int r297), (0, .ref x0), (1, .ref x1), (2, .ref x2), (3, .ref x3), (4, .ref x4)]) (v := x5 + 4) hc_law dL_law_2222 rfl 7 rfl rfl (Nat.le_of_ble_eq_true rfl) rfl ?_
              refine v_goto (pt := 28) hc_law dL_law_2225 rfl ?_
              refine v_pick [3, 4, 5, 6, 7, 0] rfl ?_
              exact IH x0 x1 x2 x3 x4 (x5 + 4) h308 e
            · refine v_iconst (pc' := 1575) (v := 0) hc_law dL_law_1574 rfl rfl ?_
              obtain ⟨rfl, rfl⟩ := ret_of e
              exact v_zret hc_law rfl (ft := .boolean) rfl dL_law_1575 rfl rfl
          · refine v_goto (pt := 2222) hc_law dL_law_1576 rfl ?_
            refine v_iinc (pc' := 2225) (lv' := [(5, .int (x5 + 4)), (7, .int r303), (6, .int r297), (0, .ref x0), (1, .ref x1), (2, .ref x2), (3, .ref x3), (4, .ref x4)]) (v := x5 + 4) hc_law dL_law_2222 rfl 7 rfl rfl (Nat.le_of_ble_eq_true rfl) rfl ?_
            refine v_goto (pt := 28) hc_law dL_law_2225 rfl ?_
            refine v_pick [3, 4, 5, 6, 7, 0] rfl ?_
            exact IH x0 x1 x2 x3 x4 (x5 + 4) h308 e
        · refine v_iconst (pc' := 1558) (v := 0) hc_law dL_law_1557 rfl rfl ?_
          obtain ⟨rfl, rfl⟩ := ret_of e
          exact v_zret hc_law rfl (ft := .boolean) rfl dL_law_1558 rfl rfl
      rcases ite_cs e with ⟨n326, e⟩ | ⟨n326, e⟩
      · refine v_tbl (off := 1535) (pt := 1579) hc_law dL_law_44 rfl rfl (by rw [n326]; rfl) rfl ?_
        refine v_aload_n (pc' := 1580) hc_law dL_law_1579 rfl rfl 1 rfl ?_
        refine v_aload_n (pc' := 1581) hc_law dL_law_1580 rfl rfl 0 rfl ?_
        refine v_iload (pc' := 1583) hc_law dL_law_1581 rfl 5 rfl ?_
        refine v_iconst (pc' := 1584) (v := 1) hc_law dL_law_1583 rfl rfl ?_
        refine v_iadd (pc' := 1585) hc_law dL_law_1584 rfl ?_
        refine v_iald (pc' := 1586) hc_law dL_law_1585 rfl e (fun v312 _ e => ?_)
        refine v_aload_n (pc' := 1587) hc_law dL_law_1586 rfl rfl 3 rfl ?_
        obtain ⟨r313, h314, e315, e⟩ := bd2_of e
        refine k_SX (pc' := 1590) (x := ⟨"BlockPapersLaw", "line", "(LBlockPapers;I[J)I"⟩) (n := 3) hc_law ho_law (w_X0_line D l hl x1 v312 x3 h e315) (wA_l q1727) q1728 q74 q1729 hy_253 ⟨Nat.le_of_ble_eq_true rfl, Nat.le_of_ble_eq_true rfl⟩ rfl rfl (Nat.le_of_ble_eq_true rfl) dL_law_1587 rfl (kS ?_) kN
        refine v_istore (pc' := 1592) (lv' := [(6, .int r313), (0, .ref x0), (1, .ref x1), (2, .ref x2), (3, .ref x3), (4, .ref x4), (5, .int x5)]) hc_law dL_law_1590 rfl (Nat.le_of_ble_eq_true rfl) rfl ?_
        refine v_aload_n (pc' := 1593) hc_law dL_law_1592 rfl rfl 3 rfl ?_
        refine v_aload_n (pc' := 1594) hc_law dL_law_1593 rfl rfl 1 rfl ?_
        refine v_iload (pc' := 1596) hc_law dL_law_1594 rfl 6 rfl ?_
        refine v_iconst (pc' := 1597) (v := 1) hc_law dL_law_1596 rfl rfl ?_
        refine v_iadd (pc' := 1598) hc_law dL_law_1597 rfl ?_
        refine v_iald (pc' := 1599) hc_law dL_law_1598 rfl e (fun v316 _ e => ?_)
        obtain ⟨c317, e⟩ := gd_of e
        obtain ⟨r318, h319, e320, e⟩ := bd2_of e
        refine k_V (pc' := 1602) (ci := 2) (n := 1) hc_law ho_law rfl c317 (w_X3_line D l hl x2 v316 h314 e320) (wA_l q2547) q2548 (wA_l q2549) q85 q2550 hy_264 ⟨Nat.le_of_ble_eq_true rfl, Nat.le_of_ble_eq_true rfl⟩ rfl rfl (Nat.le_of_ble_eq_true rfl) dL_law_1599 rfl (kS ?_) kN
        refine v_istore (pc' := 1604) (lv' := [(7, .int r318), (6, .int r313), (0, .ref x0), (1, .ref x1), (2, .ref x2), (3, .ref x3), (4, .ref x4), (5, .int x5)]) hc_law dL_law_1602 rfl (Nat.le_of_ble_eq_true rfl) rfl ?_
        refine v_aload_n (pc' := 1605) hc_law dL_law_1604 rfl rfl 4 rfl ?_
        obtain ⟨c321, e⟩ := gd_of e
        obtain ⟨r322, h323, e324, e⟩ := bd2_of e
        refine k_V (pc' := 1608) (ci := 2) (n := 0) hc_law ho_law rfl c321 (w_X3_thrown D l hl x2 h319 e324) (wA_l q2316) q2317 (wA_l q2318) q85 q2319 hy_126 ⟨Nat.le_of_ble_eq_true rfl, Nat.le_of_ble_eq_true rfl⟩ rfl rfl (Nat.le_of_ble_eq_true rfl) dL_law_1605 rfl (kS ?_) kN
        refine v_iload (pc' := 1610) hc_law dL_law_1608 rfl 1 rfl ?_
        refine v_icmp_eq (pt := 1615) (pf := 1613) hc_law dL_law_1610 rfl rfl e (fun _ e => ?_) (fun _ e => ?_)
        · refine v_iload (pc' := 1617) hc_law dL_law_1615 rfl 1 rfl ?_
          refine v_if_ne (pt := 1632) (pf := 1620) hc_law dL_law_1617 rfl rfl e (fun _ e => ?_) (fun _ e => ?_)
          · refine v_aload_n (pc' := 1621) hc_law dL_law_1620 rfl rfl 5 rfl ?_
            refine v_iconst (pc' := 1622) (v := 0) hc_law dL_law_1621 rfl rfl ?_
            refine v_lald (pc' := 1623) hc_law dL_law_1622 rfl e (fun v325 _ e => ?_)
            refine v_iload (pc' := 1625) hc_law dL_law_1623 rfl 0 rfl ?_
            refine v_i2l (pc' := 1626) hc_law dL_law_1625 rfl ?_
            refine v_lcmp (pc' := 1627) hc_law dL_law_1626 rfl ?_
            refine v_if_eq (pt := 1632) (pf := 1630) hc_law dL_law_1627 rfl rfl e (fun _ e => ?_) (fun _ e => ?_)
            · refine v_goto (pt := 2222) hc_law dL_law_1632 rfl ?_
              refine v_iinc (pc' := 2225) (lv' := [(5, .int (x5 + 4)), (7, .int r318), (6, .int r313), (0, .ref x0), (1, .ref x1), (2, .ref x2), (3, .ref x3), (4, .ref x4)]) (v := x5 + 4) hc_law dL_law_2222 rfl 7 rfl rfl (Nat.le_of_ble_eq_true rfl) rfl ?_
              refine v_goto (pt := 28) hc_law dL_law_2225 rfl ?_
              refine v_pick [3, 4, 5, 6, 7, 0] rfl ?_
              exact IH x0 x1 x2 x3 x4 (x5 + 4) h323 e
            · refine v_iconst (pc' := 1631) (v := 0) hc_law dL_law_1630 rfl rfl ?_
              obtain ⟨rfl, rfl⟩ := ret_of e
              exact v_zret hc_law rfl (ft := .boolean) rfl dL_law_1631 rfl rfl
          · refine v_goto (pt := 2222) hc_law dL_law_1632 rfl ?_
            refine v_iinc (pc' := 2225) (lv' := [(5, .int (x5 + 4)), (7, .int r318), (6, .int r313), (0, .ref x0), (1, .ref x1), (2, .ref x2), (3, .ref x3), (4, .ref x4)]) (v := x5 + 4) hc_law dL_law_2222 rfl 7 rfl rfl (Nat.le_of_ble_eq_true rfl) rfl ?_
            refine v_goto (pt := 28) hc_law dL_law_2225 rfl ?_
            refine v_pick [3, 4, 5, 6, 7, 0] rfl ?_
            exact IH x0 x1 x2 x3 x4 (x5 + 4) h323 e
        · refine v_iconst (pc' := 1614) (v := 0) hc_law dL_law_1613 rfl rfl ?_
          obtain ⟨rfl, rfl⟩ := ret_of e
          exact v_zret hc_law rfl (ft := .boolean) rfl dL_law_1614 rfl rfl
      rcases ite_cs e with ⟨n341, e⟩ | ⟨n341, e⟩
      · refine v_tbl (off := 1591) (pt := 1635) hc_law dL_law_44 rfl rfl (by rw [n341]; rfl) rfl ?_
        refine v_aload_n (pc' := 1636) hc_law dL_law_1635 rfl rfl 1 rfl ?_
        refine v_aload_n (pc' := 1637) hc_law dL_law_1636 rfl rfl 0 rfl ?_
        refine v_iload (pc' := 1639) hc_law dL_law_1637 rfl 5 rfl ?_
        refine v_iconst (pc' := 1640) (v := 1) hc_law dL_law_1639 rfl rfl ?_
        refine v_iadd (pc' := 1641) hc_law dL_law_1640 rfl ?_
        refine v_iald (pc' := 1642) hc_law dL_law_1641 rfl e (fun v327 _ e => ?_)
        refine v_aload_n (pc' := 1643) hc_law dL_law_1642 rfl rfl 3 rfl ?_
        obtain ⟨r328, h329, e330, e⟩ := bd2_of e
        refine k_SX (pc' := 1646) (x := ⟨"BlockPapersLaw", "character", "(LBlockPapers;I[J)I"⟩) (n := 3) hc_law ho_law (w_X0_character D l hl x1 v327 x3 h e330) (wA_l q1878) q1879 q74 q1880 hy_268 ⟨Nat.le_of_ble_eq_true rfl, Nat.le_of_ble_eq_true rfl⟩ rfl rfl (Nat.le_of_ble_eq_true rfl) dL_law_1643 rfl (kS ?_) kN
        refine v_istore (pc' := 1648) (lv' := [(6, .int r328), (0, .ref x0), (1, .ref x1), (2, .ref x2), (3, .ref x3), (4, .ref x4), (5, .int x5)]) hc_law dL_law_1646 rfl (Nat.le_of_ble_eq_true rfl) rfl ?_
        refine v_aload_n (pc' := 1649) hc_law dL_law_1648 rfl rfl 3 rfl ?_
        refine v_aload_n (pc' := 1650) hc_law dL_law_1649 rfl rfl 1 rfl ?_
        refine v_iload (pc' := 1652) hc_law dL_law_1650 rfl 6 rfl ?_
        refine v_iconst (pc' := 1653) (v := 1) hc_law dL_law_1652 rfl rfl ?_
        refine v_iadd (pc' := 1654) hc_law dL_law_1653 rfl ?_
        refine v_iald (pc' := 1655) hc_law dL_law_1654 rfl e (fun v331 _ e => ?_)
        obtain ⟨c332, e⟩ := gd_of e
        obtain ⟨r333, h334, e335, e⟩ := bd2_of e
        refine k_V (pc' := 1658) (ci := 2) (n := 1) hc_law ho_law rfl c332 (w_X3_character D l hl x2 v331 h329 e335) (wA_l q2571) q2572 (wA_l q2573) q85 q2574 hy_269 ⟨Nat.le_of_ble_eq_true rfl, Nat.le_of_ble_eq_true rfl⟩ rfl rfl (Nat.le_of_ble_eq_true rfl) dL_law_1655 rfl (kS ?_) kN
        refine v_istore (pc' := 1660) (lv' := [(7, .int r333), (6, .int r328), (0, .ref x0), (1, .ref x1), (2, .ref x2), (3, .ref x3), (4, .ref x4), (5, .int x5)]) hc_law dL_law_1658 rfl (Nat.le_of_ble_eq_true rfl) rfl ?_
        refine v_aload_n (pc' := 1661) hc_law dL_law_1660 rfl rfl 4 rfl ?_
        obtain ⟨c336, e⟩ := gd_of e
        obtain ⟨r337, h338, e339, e⟩ := bd2_of e
        refine k_V (pc' := 1664) (ci := 2) (n := 0) hc_law ho_law rfl c336 (w_X3_thrown D l hl x2 h334 e339) (wA_l q2316) q2317 (wA_l q2318) q85 q2319 hy_126 ⟨Nat.le_of_ble_eq_true rfl, Nat.le_of_ble_eq_true rfl⟩ rfl rfl (Nat.le_of_ble_eq_true rfl) dL_law_1661 rfl (kS ?_) kN
        refine v_iload (pc' := 1666) hc_law dL_law_1664 rfl 1 rfl ?_
        refine v_icmp_eq (pt := 1671) (pf := 1669) hc_law dL_law_1666 rfl rfl e (fun _ e => ?_) (fun _ e => ?_)
        · refine v_iload (pc' := 1673) hc_law dL_law_1671 rfl 1 rfl ?_
          refine v_if_ne (pt := 1688) (pf := 1676) hc_law dL_law_1673 rfl rfl e (fun _ e => ?_) (fun _ e => ?_)
          · refine v_aload_n (pc' := 1677) hc_law dL_law_1676 rfl rfl 5 rfl ?_
            refine v_iconst (pc' := 1678) (v := 0) hc_law dL_law_1677 rfl rfl ?_
            refine v_lald (pc' := 1679) hc_law dL_law_1678 rfl e (fun v340 _ e => ?_)
            refine v_iload (pc' := 1681) hc_law dL_law_1679 rfl 0 rfl ?_
            refine v_i2l (pc' := 1682) hc_law dL_law_1681 rfl ?_
            refine v_lcmp (pc' := 1683) hc_law dL_law_1682 rfl ?_
            refine v_if_eq (pt := 1688) (pf := 1686) hc_law dL_law_1683 rfl rfl e (fun _ e => ?_) (fun _ e => ?_)
            · refine v_goto (pt := 2222) hc_law dL_law_1688 rfl ?_
              refine v_iinc (pc' := 2225) (lv' := [(5, .int (x5 + 4)), (7, .int r333), (6, .int r328), (0, .ref x0), (1, .ref x1), (2, .ref x2), (3, .ref x3), (4, .ref x4)]) (v := x5 + 4) hc_law dL_law_2222 rfl 7 rfl rfl (Nat.le_of_ble_eq_true rfl) rfl ?_
              refine v_goto (pt := 28) hc_law dL_law_2225 rfl ?_
              refine v_pick [3, 4, 5, 6, 7, 0] rfl ?_
              exact IH x0 x1 x2 x3 x4 (x5 + 4) h338 e
            · refine v_iconst (pc' := 1687) (v := 0) hc_law dL_law_1686 rfl rfl ?_
              obtain ⟨rfl, rfl⟩ := ret_of e
              exact v_zret hc_law rfl (ft := .boolean) rfl dL_law_1687 rfl rfl
          · refine v_goto (pt := 2222) hc_law dL_law_1688 rfl ?_
            refine v_iinc (pc' := 2225) (lv' := [(5, .int (x5 + 4)), (7, .int r333), (6, .int r328), (0, .ref x0), (1, .ref x1), (2, .ref x2), (3, .ref x3), (4, .ref x4)]) (v := x5 + 4) hc_law dL_law_2222 rfl 7 rfl rfl (Nat.le_of_ble_eq_true rfl) rfl ?_
            refine v_goto (pt := 28) hc_law dL_law_2225 rfl ?_
            refine v_pick [3, 4, 5, 6, 7, 0] rfl ?_
            exact IH x0 x1 x2 x3 x4 (x5 + 4) h338 e
        · refine v_iconst (pc' := 1670) (v := 0) hc_law dL_law_1669 rfl rfl ?_
          obtain ⟨rfl, rfl⟩ := ret_of e
          exact v_zret hc_law rfl (ft := .boolean) rfl dL_law_1670 rfl rfl
      rcases ite_cs e with ⟨n356, e⟩ | ⟨n356, e⟩
      · refine v_tbl (off := 1647) (pt := 1691) hc_law dL_law_44 rfl rfl (by rw [n356]; rfl) rfl ?_
        refine v_aload_n (pc' := 1692) hc_law dL_law_1691 rfl rfl 1 rfl ?_
        refine v_aload_n (pc' := 1693) hc_law dL_law_1692 rfl rfl 0 rfl ?_
        refine v_iload (pc' := 1695) hc_law dL_law_1693 rfl 5 rfl ?_
        refine v_iconst (pc' := 1696) (v := 1) hc_law dL_law_1695 rfl rfl ?_
        refine v_iadd (pc' := 1697) hc_law dL_law_1696 rfl ?_
        refine v_iald (pc' := 1698) hc_law dL_law_1697 rfl e (fun v342 _ e => ?_)
        refine v_aload_n (pc' := 1699) hc_law dL_law_1698 rfl rfl 3 rfl ?_
        obtain ⟨r343, h344, e345, e⟩ := bd2_of e
        refine k_SX (pc' := 1702) (x := ⟨"BlockPapersLaw", "number", "(LBlockPapers;I[J)I"⟩) (n := 3) hc_law ho_law (w_X0_number D l hl x1 v342 x3 h e345) (wA_l q1888) q1889 q74 q1890 hy_276 ⟨Nat.le_of_ble_eq_true rfl, Nat.le_of_ble_eq_true rfl⟩ rfl rfl (Nat.le_of_ble_eq_true rfl) dL_law_1699 rfl (kS ?_) kN
        refine v_istore (pc' := 1704) (lv' := [(6, .int r343), (0, .ref x0), (1, .ref x1), (2, .ref x2), (3, .ref x3), (4, .ref x4), (5, .int x5)]) hc_law dL_law_1702 rfl (Nat.le_of_ble_eq_true rfl) rfl ?_
        refine v_aload_n (pc' := 1705) hc_law dL_law_1704 rfl rfl 3 rfl ?_
        refine v_aload_n (pc' := 1706) hc_law dL_law_1705 rfl rfl 1 rfl ?_
        refine v_iload (pc' := 1708) hc_law dL_law_1706 rfl 6 rfl ?_
        refine v_iconst (pc' := 1709) (v := 1) hc_law dL_law_1708 rfl rfl ?_
        refine v_iadd (pc' := 1710) hc_law dL_law_1709 rfl ?_
        refine v_iald (pc' := 1711) hc_law dL_law_1710 rfl e (fun v346 _ e => ?_)
        obtain ⟨c347, e⟩ := gd_of e
        obtain ⟨r348, h349, e350, e⟩ := bd2_of e
        refine k_V (pc' := 1714) (ci := 2) (n := 1) hc_law ho_law rfl c347 (w_X3_number D l hl x2 v346 h344 e350) (wA_l q2575) q2576 (wA_l q2577) q85 q2578 hy_282 ⟨Nat.le_of_ble_eq_true rfl, Nat.le_of_ble_eq_true rfl⟩ rfl rfl (Nat.le_of_ble_eq_true rfl) dL_law_1711 rfl (kS ?_) kN
        refine v_istore (pc' := 1716) (lv' := [(7, .int r348), (6, .int r343), (0, .ref x0), (1, .ref x1), (2, .ref x2), (3, .ref x3), (4, .ref x4), (5, .int x5)]) hc_law dL_law_1714 rfl (Nat.le_of_ble_eq_true rfl) rfl ?_
        refine v_aload_n (pc' := 1717) hc_law dL_law_1716 rfl rfl 4 rfl ?_
        obtain ⟨c351, e⟩ := gd_of e
        obtain ⟨r352, h353, e354, e⟩ := bd2_of e
        refine k_V (pc' := 1720) (ci := 2) (n := 0) hc_law ho_law rfl c351 (w_X3_thrown D l hl x2 h349 e354) (wA_l q2316) q2317 (wA_l q2318) q85 q2319 hy_126 ⟨Nat.le_of_ble_eq_true rfl, Nat.le_of_ble_eq_true rfl⟩ rfl rfl (Nat.le_of_ble_eq_true rfl) dL_law_1717 rfl (kS ?_) kN
        refine v_iload (pc' := 1722) hc_law dL_law_1720 rfl 1 rfl ?_
        refine v_icmp_eq (pt := 1727) (pf := 1725) hc_law dL_law_1722 rfl rfl e (fun _ e => ?_) (fun _ e => ?_)
        · refine v_iload (pc' := 1729) hc_law dL_law_1727 rfl 1 rfl ?_
          refine v_if_ne (pt := 1744) (pf := 1732) hc_law dL_law_1729 rfl rfl e (fun _ e => ?_) (fun _ e => ?_)
          · refine v_aload_n (pc' := 1733) hc_law dL_law_1732 rfl rfl 5 rfl ?_
            refine v_iconst (pc' := 1734) (v := 0) hc_law dL_law_1733 rfl rfl ?_
            refine v_lald (pc' := 1735) hc_law dL_law_1734 rfl e (fun v355 _ e => ?_)
            refine v_iload (pc' := 1737) hc_law dL_law_1735 rfl 0 rfl ?_
            refine v_i2l (pc' := 1738) hc_law dL_law_1737 rfl ?_
            refine v_lcmp (pc' := 1739) hc_law dL_law_1738 rfl ?_
            refine v_if_eq (pt := 1744) (pf := 1742) hc_law dL_law_1739 rfl rfl e (fun _ e => ?_) (fun _ e => ?_)
            · refine v_goto (pt := 2222) hc_law dL_law_1744 rfl ?_
              refine v_iinc (pc' := 2225) (lv' := [(5, .int (x5 + 4)), (7, .int r348), (6, .int r343), (0, .ref x0), (1, .ref x1), (2, .ref x2), (3, .ref x3), (4, .ref x4)]) (v := x5 + 4) hc_law dL_law_2222 rfl 7 rfl rfl (Nat.le_of_ble_eq_true rfl) rfl ?_
              refine v_goto (pt := 28) hc_law dL_law_2225 rfl ?_
              refine v_pick [3, 4, 5, 6, 7, 0] rfl ?_
              exact IH x0 x1 x2 x3 x4 (x5 + 4) h353 e
            · refine v_iconst (pc' := 1743) (v := 0) hc_law dL_law_1742 rfl rfl ?_
              obtain ⟨rfl, rfl⟩ := ret_of e
              exact v_zret hc_law rfl (ft := .boolean) rfl dL_law_1743 rfl rfl
          · refine v_goto (pt := 2222) hc_law dL_law_1744 rfl ?_
            refine v_iinc (pc' := 2225) (lv' := [(5, .int (x5 + 4)), (7, .int r348), (6, .int r343), (0, .ref x0), (1, .ref x1), (2, .ref x2), (3, .ref x3), (4, .ref x4)]) (v := x5 + 4) hc_law dL_law_2222 rfl 7 rfl rfl (Nat.le_of_ble_eq_true rfl) rfl ?_
            refine v_goto (pt := 28) hc_law dL_law_2225 rfl ?_
            refine v_pick [3, 4, 5, 6, 7, 0] rfl ?_
            exact IH x0 x1 x2 x3 x4 (x5 + 4) h353 e
        · refine v_iconst (pc' := 1726) (v := 0) hc_law dL_law_1725 rfl rfl ?_
          obtain ⟨rfl, rfl⟩ := ret_of e
          exact v_zret hc_law rfl (ft := .boolean) rfl dL_law_1726 rfl rfl
      rcases ite_cs e with ⟨n366, e⟩ | ⟨n366, e⟩
      · refine v_tbl (off := 1703) (pt := 1747) hc_law dL_law_44 rfl rfl (by rw [n366]; rfl) rfl ?_
        refine v_aload_n (pc' := 1748) hc_law dL_law_1747 rfl rfl 1 rfl ?_
        obtain ⟨c357, e⟩ := gd_of e
        rcases bdX_of e with ⟨r358, h359, e360, e⟩ | ⟨zq365, h359, e360, e⟩
        · refine k_V (pc' := 1751) (ci := 0) (n := 0) hc_law ho_law rfl c357 (w_X1_printedAgain D l hl x1 h e360) (wA_l q258) q259 (wA_l q260) q75 q261 hy_283 ⟨Nat.le_of_ble_eq_true rfl, Nat.le_of_ble_eq_true rfl⟩ rfl rfl (Nat.le_of_ble_eq_true rfl) dL_law_1748 rfl (kS ?_) kN
          refine v_aload_n (pc' := 1752) hc_law dL_law_1751 rfl rfl 2 rfl ?_
          obtain ⟨c361, e⟩ := gd_of e
          obtain ⟨r362, h363, e364, e⟩ := bd2_of e
          refine k_V (pc' := 1755) (ci := 2) (n := 0) hc_law ho_law rfl c361 (w_X3_printedAgain D l hl x2 h359 e364) (wA_l q2599) q2600 (wA_l q2601) q85 q2602 hy_284 ⟨Nat.le_of_ble_eq_true rfl, Nat.le_of_ble_eq_true rfl⟩ rfl rfl (Nat.le_of_ble_eq_true rfl) dL_law_1752 rfl (kS ?_) kN
          refine v_icmp_eq (pt := 2222) (pf := 1758) hc_law dL_law_1755 rfl rfl e (fun _ e => ?_) (fun _ e => ?_)
          · refine v_iinc (pc' := 2225) (lv' := [(5, .int (x5 + 4)), (0, .ref x0), (1, .ref x1), (2, .ref x2), (3, .ref x3), (4, .ref x4)]) (v := x5 + 4) hc_law dL_law_2222 rfl 5 rfl rfl (Nat.le_of_ble_eq_true rfl) rfl ?_
            refine v_goto (pt := 28) hc_law dL_law_2225 rfl ?_
            refine v_pick [1, 2, 3, 4, 5, 0] rfl ?_
            exact IH x0 x1 x2 x3 x4 (x5 + 4) h363 e
          · refine v_iconst (pc' := 1759) (v := 0) hc_law dL_law_1758 rfl rfl ?_
            obtain ⟨rfl, rfl⟩ := ret_of e
            exact v_zret hc_law rfl (ft := .boolean) rfl dL_law_1759 rfl rfl
        · refine k_V (pc' := 1751) (ci := 0) (n := 0) hc_law ho_law rfl c357 (w_X1_printedAgain D l hl x1 h e360) (wA_l q258) q259 (wA_l q260) q75 q261 hy_283 ⟨Nat.le_of_ble_eq_true rfl, Nat.le_of_ble_eq_true rfl⟩ rfl rfl (Nat.le_of_ble_eq_true rfl) dL_law_1748 rfl kM (kX ?_)
          exact nomatch e
      rcases ite_cs e with ⟨n381, e⟩ | ⟨n381, e⟩
      · refine v_tbl (off := 1716) (pt := 1760) hc_law dL_law_44 rfl rfl (by rw [n381]; rfl) rfl ?_
        refine v_aload_n (pc' := 1761) hc_law dL_law_1760 rfl rfl 1 rfl ?_
        refine v_aload (pc' := 1763) hc_law dL_law_1761 rfl 4 rfl ?_
        obtain ⟨r367, h368, e369, e⟩ := bd2_of e
        refine k_SX (pc' := 1766) (x := ⟨"BlockPapersLaw", "meanShade", "(LBlockPapers;[D)I"⟩) (n := 2) hc_law ho_law (w_X0_meanShade D l hl x1 x4 h e369) (wA_l q1892) q1893 q74 q1894 hy_286 ⟨Nat.le_of_ble_eq_true rfl, Nat.le_of_ble_eq_true rfl⟩ rfl rfl (Nat.le_of_ble_eq_true rfl) dL_law_1763 rfl (kS ?_) kN
        refine v_istore (pc' := 1768) (lv' := [(6, .int r367), (0, .ref x0), (1, .ref x1), (2, .ref x2), (3, .ref x3), (4, .ref x4), (5, .int x5)]) hc_law dL_law_1766 rfl (Nat.le_of_ble_eq_true rfl) rfl ?_
        refine v_aload_n (pc' := 1769) hc_law dL_law_1768 rfl rfl 3 rfl ?_
        obtain ⟨c370, e⟩ := gd_of e
        obtain ⟨r371, h372, e373, e⟩ := bd2_of e
        refine k_V (pc' := 1772) (ci := 2) (n := 0) hc_law ho_law rfl c370 (w_X3_meanShade D l hl x2 h368 e373) (wA_l q2603) q2604 (wA_l q2605) q85 q2606 hy_287 ⟨Nat.le_of_ble_eq_true rfl, Nat.le_of_ble_eq_true rfl⟩ rfl rfl (Nat.le_of_ble_eq_true rfl) dL_law_1769 rfl (kS ?_) kN
        refine v_dstore (pc' := 1774) (lv' := [(7, .double r371), (6, .int r367), (0, .ref x0), (1, .ref x1), (2, .ref x2), (3, .ref x3), (4, .ref x4), (5, .int x5)]) hc_law dL_law_1772 rfl (Nat.le_of_ble_eq_true rfl) rfl ?_
        refine v_aload_n (pc' := 1775) hc_law dL_law_1774 rfl rfl 4 rfl ?_
        obtain ⟨c374, e⟩ := gd_of e
        obtain ⟨r375, h376, e377, e⟩ := bd2_of e
        refine k_V (pc' := 1778) (ci := 2) (n := 0) hc_law ho_law rfl c374 (w_X3_thrown D l hl x2 h372 e377) (wA_l q2316) q2317 (wA_l q2318) q85 q2319 hy_126 ⟨Nat.le_of_ble_eq_true rfl, Nat.le_of_ble_eq_true rfl⟩ rfl rfl (Nat.le_of_ble_eq_true rfl) dL_law_1775 rfl (kS ?_) kN
        refine v_iload (pc' := 1780) hc_law dL_law_1778 rfl 1 rfl ?_
        refine v_icmp_eq (pt := 1785) (pf := 1783) hc_law dL_law_1780 rfl rfl e (fun _ e => ?_) (fun _ e => ?_)
        · refine v_iload (pc' := 1787) hc_law dL_law_1785 rfl 1 rfl ?_
          refine v_if_ne (pt := 1822) (pf := 1790) hc_law dL_law_1787 rfl rfl e (fun _ e => ?_) (fun _ e => ?_)
          · refine v_aload (pc' := 1792) hc_law dL_law_1790 rfl 6 rfl ?_
            refine v_iconst (pc' := 1793) (v := 0) hc_law dL_law_1792 rfl rfl ?_
            refine v_dald (pc' := 1794) hc_law dL_law_1793 rfl e (fun v378 _ e => ?_)
            refine v_dload (pc' := 1796) hc_law dL_law_1794 rfl 0 rfl ?_
            refine v_dcmp (pc' := 1797) hc_law dL_law_1796 rfl ?_
            refine v_if_eq (pt := 1822) (pf := 1800) hc_law dL_law_1797 rfl rfl e (fun _ e => ?_) (fun _ e => ?_)
            · refine v_goto (pt := 2222) hc_law dL_law_1822 rfl ?_
              refine v_iinc (pc' := 2225) (lv' := [(5, .int (x5 + 4)), (7, .double r371), (6, .int r367), (0, .ref x0), (1, .ref x1), (2, .ref x2), (3, .ref x3), (4, .ref x4)]) (v := x5 + 4) hc_law dL_law_2222 rfl 7 rfl rfl (Nat.le_of_ble_eq_true rfl) rfl ?_
              refine v_goto (pt := 28) hc_law dL_law_2225 rfl ?_
              refine v_pick [3, 4, 5, 6, 7, 0] rfl ?_
              exact IH x0 x1 x2 x3 x4 (x5 + 4) h376 e
            · refine v_aload (pc' := 1802) hc_law dL_law_1800 rfl 6 rfl ?_
              refine v_iconst (pc' := 1803) (v := 0) hc_law dL_law_1802 rfl rfl ?_
              refine v_dald (pc' := 1804) hc_law dL_law_1803 rfl e (fun v379 _ e => ?_)
              refine v_aload (pc' := 1806) hc_law dL_law_1804 rfl 6 rfl ?_
              refine v_iconst (pc' := 1807) (v := 0) hc_law dL_law_1806 rfl rfl ?_
              refine v_dald (pc' := 1808) hc_law dL_law_1807 rfl e (fun v380 _ e => ?_)
              refine v_dcmp (pc' := 1809) hc_law dL_law_1808 rfl ?_
              refine v_if_eq (pt := 1820) (pf := 1812) hc_law dL_law_1809 rfl rfl e (fun _ e => ?_) (fun _ e => ?_)
              · refine v_iconst (pc' := 1821) (v := 0) hc_law dL_law_1820 rfl rfl ?_
                obtain ⟨rfl, rfl⟩ := ret_of e
                exact v_zret hc_law rfl (ft := .boolean) rfl dL_law_1821 rfl rfl
              · refine v_dload (pc' := 1814) hc_law dL_law_1812 rfl 0 rfl ?_
                refine v_dload (pc' := 1816) hc_law dL_law_1814 rfl 0 rfl ?_
                refine v_dcmp (pc' := 1817) hc_law dL_law_1816 rfl ?_
                refine v_if_ne (pt := 1822) (pf := 1820) hc_law dL_law_1817 rfl rfl e (fun _ e => ?_) (fun _ e => ?_)
                · refine v_iconst (pc' := 1821) (v := 0) hc_law dL_law_1820 rfl rfl ?_
                  obtain ⟨rfl, rfl⟩ := ret_of e
                  exact v_zret hc_law rfl (ft := .boolean) rfl dL_law_1821 rfl rfl
                · refine v_goto (pt := 2222) hc_law dL_law_1822 rfl ?_
                  refine v_iinc (pc' := 2225) (lv' := [(5, .int (x5 + 4)), (7, .double r371), (6, .int r367), (0, .ref x0), (1, .ref x1), (2, .ref x2), (3, .ref x3), (4, .ref x4)]) (v := x5 + 4) hc_law dL_law_2222 rfl 7 rfl rfl (Nat.le_of_ble_eq_true rfl) rfl ?_
                  refine v_goto (pt := 28) hc_law dL_law_2225 rfl ?_
                  refine v_pick [3, 4, 5, 6, 7, 0] rfl ?_
                  exact IH x0 x1 x2 x3 x4 (x5 + 4) h376 e
          · refine v_goto (pt := 2222) hc_law dL_law_1822 rfl ?_
            refine v_iinc (pc' := 2225) (lv' := [(5, .int (x5 + 4)), (7, .double r371), (6, .int r367), (0, .ref x0), (1, .ref x1), (2, .ref x2), (3, .ref x3), (4, .ref x4)]) (v := x5 + 4) hc_law dL_law_2222 rfl 7 rfl rfl (Nat.le_of_ble_eq_true rfl) rfl ?_
            refine v_goto (pt := 28) hc_law dL_law_2225 rfl ?_
            refine v_pick [3, 4, 5, 6, 7, 0] rfl ?_
            exact IH x0 x1 x2 x3 x4 (x5 + 4) h376 e
        · refine v_iconst (pc' := 1784) (v := 0) hc_law dL_law_1783 rfl rfl ?_
          obtain ⟨rfl, rfl⟩ := ret_of e
          exact v_zret hc_law rfl (ft := .boolean) rfl dL_law_1784 rfl rfl
      rcases ite_cs e with ⟨n397, e⟩ | ⟨n397, e⟩
      · refine v_tbl (off := 1781) (pt := 1825) hc_law dL_law_44 rfl rfl (by rw [n397]; rfl) rfl ?_
        refine v_aload_n (pc' := 1826) hc_law dL_law_1825 rfl rfl 1 rfl ?_
        refine v_aload (pc' := 1828) hc_law dL_law_1826 rfl 4 rfl ?_
        obtain ⟨r382, h383, e384, e⟩ := bd2_of e
        refine k_SX (pc' := 1831) (x := ⟨"BlockPapersLaw", "wasted", "(LBlockPapers;[D)I"⟩) (n := 2) hc_law ho_law (w_X0_wasted D l hl x1 x4 h e384) (wA_l q1920) q1921 q74 q1922 hy_289 ⟨Nat.le_of_ble_eq_true rfl, Nat.le_of_ble_eq_true rfl⟩ rfl rfl (Nat.le_of_ble_eq_true rfl) dL_law_1828 rfl (kS ?_) kN
        refine v_istore (pc' := 1833) (lv' := [(6, .int r382), (0, .ref x0), (1, .ref x1), (2, .ref x2), (3, .ref x3), (4, .ref x4), (5, .int x5)]) hc_law dL_law_1831 rfl (Nat.le_of_ble_eq_true rfl) rfl ?_
        refine v_aload_n (pc' := 1834) hc_law dL_law_1833 rfl rfl 3 rfl ?_
        obtain ⟨c385, e⟩ := gd_of e
        obtain ⟨r386, h387, e388, e⟩ := bd2_of e
        refine k_V (pc' := 1837) (ci := 2) (n := 0) hc_law ho_law rfl c385 (w_X3_wasted D l hl x2 h383 e388) (wA_l q2607) q2608 (wA_l q2609) q85 q2610 hy_291 ⟨Nat.le_of_ble_eq_true rfl, Nat.le_of_ble_eq_true rfl⟩ rfl rfl (Nat.le_of_ble_eq_true rfl) dL_law_1834 rfl (kS ?_) kN
        refine v_fstore (pc' := 1839) (lv' := [(7, .float r386), (6, .int r382), (0, .ref x0), (1, .ref x1), (2, .ref x2), (3, .ref x3), (4, .ref x4), (5, .int x5)]) hc_law dL_law_1837 rfl (Nat.le_of_ble_eq_true rfl) rfl ?_
        refine v_aload_n (pc' := 1840) hc_law dL_law_1839 rfl rfl 4 rfl ?_
        obtain ⟨c389, e⟩ := gd_of e
        obtain ⟨r390, h391, e392, e⟩ := bd2_of e
        refine k_V (pc' := 1843) (ci := 2) (n := 0) hc_law ho_law rfl c389 (w_X3_thrown D l hl x2 h387 e392) (wA_l q2316) q2317 (wA_l q2318) q85 q2319 hy_126 ⟨Nat.le_of_ble_eq_true rfl, Nat.le_of_ble_eq_true rfl⟩ rfl rfl (Nat.le_of_ble_eq_true rfl) dL_law_1840 rfl (kS ?_) kN
        refine v_iload (pc' := 1845) hc_law dL_law_1843 rfl 1 rfl ?_
        refine v_icmp_eq (pt := 1850) (pf := 1848) hc_law dL_law_1845 rfl rfl e (fun _ e => ?_) (fun _ e => ?_)
        · refine v_iload (pc' := 1852) hc_law dL_law_1850 rfl 1 rfl ?_
          refine v_if_ne (pt := 1888) (pf := 1855) hc_law dL_law_1852 rfl rfl e (fun _ e => ?_) (fun _ e => ?_)
          · refine v_aload (pc' := 1857) hc_law dL_law_1855 rfl 6 rfl ?_
            refine v_iconst (pc' := 1858) (v := 0) hc_law dL_law_1857 rfl rfl ?_
            refine v_dald (pc' := 1859) hc_law dL_law_1858 rfl e (fun v393 _ e => ?_)
            refine v_fload (pc' := 1861) hc_law dL_law_1859 rfl 0 rfl ?_
            obtain ⟨c394, e⟩ := gd_of e
            refine v_f2d (pc' := 1862) hc_law dL_law_1861 rfl (vf64_of c394) ?_
            refine v_dcmp (pc' := 1863) hc_law dL_law_1862 rfl ?_
            refine v_if_eq (pt := 1888) (pf := 1866) hc_law dL_law_1863 rfl rfl e (fun _ e => ?_) (fun _ e => ?_)
            · refine v_goto (pt := 2222) hc_law dL_law_1888 rfl ?_
              refine v_iinc (pc' := 2225) (lv' := [(5, .int (x5 + 4)), (7, .float r386), (6, .int r382), (0, .ref x0), (1, .ref x1), (2, .ref x2), (3, .ref x3), (4, .ref x4)]) (v := x5 + 4) hc_law dL_law_2222 rfl 7 rfl rfl (Nat.le_of_ble_eq_true rfl) rfl ?_
              refine v_goto (pt := 28) hc_law dL_law_2225 rfl ?_
              refine v_pick [3, 4, 5, 6, 7, 0] rfl ?_
              exact IH x0 x1 x2 x3 x4 (x5 + 4) h391 e
            · refine v_aload (pc' := 1868) hc_law dL_law_1866 rfl 6 rfl ?_
              refine v_iconst (pc' := 1869) (v := 0) hc_law dL_law_1868 rfl rfl ?_
              refine v_dald (pc' := 1870) hc_law dL_law_1869 rfl e (fun v395 _ e => ?_)
              refine v_aload (pc' := 1872) hc_law dL_law_1870 rfl 6 rfl ?_
              refine v_iconst (pc' := 1873) (v := 0) hc_law dL_law_1872 rfl rfl ?_
              refine v_dald (pc' := 1874) hc_law dL_law_1873 rfl e (fun v396 _ e => ?_)
              refine v_dcmp (pc' := 1875) hc_law dL_law_1874 rfl ?_
              refine v_if_eq (pt := 1886) (pf := 1878) hc_law dL_law_1875 rfl rfl e (fun _ e => ?_) (fun _ e => ?_)
              · refine v_iconst (pc' := 1887) (v := 0) hc_law dL_law_1886 rfl rfl ?_
                obtain ⟨rfl, rfl⟩ := ret_of e
                exact v_zret hc_law rfl (ft := .boolean) rfl dL_law_1887 rfl rfl
              · refine v_fload (pc' := 1880) hc_law dL_law_1878 rfl 0 rfl ?_
                refine v_fload (pc' := 1882) hc_law dL_law_1880 rfl 0 rfl ?_
                refine v_fcmp (pc' := 1883) hc_law dL_law_1882 rfl ?_
                refine v_if_ne (pt := 1888) (pf := 1886) hc_law dL_law_1883 rfl rfl e (fun _ e => ?_) (fun _ e => ?_)
                · refine v_iconst (pc' := 1887) (v := 0) hc_law dL_law_1886 rfl rfl ?_
                  obtain ⟨rfl, rfl⟩ := ret_of e
                  exact v_zret hc_law rfl (ft := .boolean) rfl dL_law_1887 rfl rfl
                · refine v_goto (pt := 2222) hc_law dL_law_1888 rfl ?_
                  refine v_iinc (pc' := 2225) (lv' := [(5, .int (x5 + 4)), (7, .float r386), (6, .int r382), (0, .ref x0), (1, .ref x1), (2, .ref x2), (3, .ref x3), (4, .ref x4)]) (v := x5 + 4) hc_law dL_law_2222 rfl 7 rfl rfl (Nat.le_of_ble_eq_true rfl) rfl ?_
                  refine v_goto (pt := 28) hc_law dL_law_2225 rfl ?_
                  refine v_pick [3, 4, 5, 6, 7, 0] rfl ?_
                  exact IH x0 x1 x2 x3 x4 (x5 + 4) h391 e
          · refine v_goto (pt := 2222) hc_law dL_law_1888 rfl ?_
            refine v_iinc (pc' := 2225) (lv' := [(5, .int (x5 + 4)), (7, .float r386), (6, .int r382), (0, .ref x0), (1, .ref x1), (2, .ref x2), (3, .ref x3), (4, .ref x4)]) (v := x5 + 4) hc_law dL_law_2222 rfl 7 rfl rfl (Nat.le_of_ble_eq_true rfl) rfl ?_
            refine v_goto (pt := 28) hc_law dL_law_2225 rfl ?_
            refine v_pick [3, 4, 5, 6, 7, 0] rfl ?_
            exact IH x0 x1 x2 x3 x4 (x5 + 4) h391 e
        · refine v_iconst (pc' := 1849) (v := 0) hc_law dL_law_1848 rfl rfl ?_
          obtain ⟨rfl, rfl⟩ := ret_of e
          exact v_zret hc_law rfl (ft := .boolean) rfl dL_law_1849 rfl rfl
      rcases ite_cs e with ⟨n412, e⟩ | ⟨n412, e⟩
      · refine v_tbl (off := 1847) (pt := 1891) hc_law dL_law_44 rfl rfl (by rw [n412]; rfl) rfl ?_
        refine v_aload_n (pc' := 1892) hc_law dL_law_1891 rfl rfl 1 rfl ?_
        refine v_aload_n (pc' := 1893) hc_law dL_law_1892 rfl rfl 0 rfl ?_
        refine v_iload (pc' := 1895) hc_law dL_law_1893 rfl 5 rfl ?_
        refine v_iconst (pc' := 1896) (v := 1) hc_law dL_law_1895 rfl rfl ?_
        refine v_iadd (pc' := 1897) hc_law dL_law_1896 rfl ?_
        refine v_iald (pc' := 1898) hc_law dL_law_1897 rfl e (fun v398 _ e => ?_)
        refine v_i2c (pc' := 1899) hc_law dL_law_1898 rfl ?_
        refine v_aload_n (pc' := 1900) hc_law dL_law_1899 rfl rfl 3 rfl ?_
        obtain ⟨r399, h400, e401, e⟩ := bd2_of e
        refine k_SX (pc' := 1903) (x := ⟨"BlockPapersLaw", "feed", "(LBlockPapers;C[J)I"⟩) (n := 3) hc_law ho_law (w_X0_feed D l hl x1 ((v398.toUInt32 % 65536).toInt32) x3 h e401) (wA_l q1927) q1928 q74 q1929 hy_301 ⟨Nat.le_of_ble_eq_true rfl, Nat.le_of_ble_eq_true rfl⟩ rfl rfl (Nat.le_of_ble_eq_true rfl) dL_law_1900 rfl (kS ?_) kN
        refine v_istore (pc' := 1905) (lv' := [(6, .int r399), (0, .ref x0), (1, .ref x1), (2, .ref x2), (3, .ref x3), (4, .ref x4), (5, .int x5)]) hc_law dL_law_1903 rfl (Nat.le_of_ble_eq_true rfl) rfl ?_
        refine v_aload_n (pc' := 1906) hc_law dL_law_1905 rfl rfl 3 rfl ?_
        refine v_aload_n (pc' := 1907) hc_law dL_law_1906 rfl rfl 1 rfl ?_
        refine v_iload (pc' := 1909) hc_law dL_law_1907 rfl 6 rfl ?_
        refine v_iconst (pc' := 1910) (v := 1) hc_law dL_law_1909 rfl rfl ?_
        refine v_iadd (pc' := 1911) hc_law dL_law_1910 rfl ?_
        refine v_iald (pc' := 1912) hc_law dL_law_1911 rfl e (fun v402 _ e => ?_)
        refine v_i2c (pc' := 1913) hc_law dL_law_1912 rfl ?_
        obtain ⟨c403, e⟩ := gd_of e
        obtain ⟨r404, h405, e406, e⟩ := bd2_of e
        refine k_V (pc' := 1916) (ci := 2) (n := 1) hc_law ho_law rfl c403 (w_X3_feed D l hl x2 ((v402.toUInt32 % 65536).toInt32) h400 e406) (wA_l q2615) q2616 (wA_l q2617) q85 q2618 hy_302 ⟨Nat.le_of_ble_eq_true rfl, Nat.le_of_ble_eq_true rfl⟩ rfl rfl (Nat.le_of_ble_eq_true rfl) dL_law_1913 rfl (kS ?_) kN
        refine v_istore (pc' := 1918) (lv' := [(7, .int r404), (6, .int r399), (0, .ref x0), (1, .ref x1), (2, .ref x2), (3, .ref x3), (4, .ref x4), (5, .int x5)]) hc_law dL_law_1916 rfl (Nat.le_of_ble_eq_true rfl) rfl ?_
        refine v_aload_n (pc' := 1919) hc_law dL_law_1918 rfl rfl 4 rfl ?_
        obtain ⟨c407, e⟩ := gd_of e
        obtain ⟨r408, h409, e410, e⟩ := bd2_of e
        refine k_V (pc' := 1922) (ci := 2) (n := 0) hc_law ho_law rfl c407 (w_X3_thrown D l hl x2 h405 e410) (wA_l q2316) q2317 (wA_l q2318) q85 q2319 hy_126 ⟨Nat.le_of_ble_eq_true rfl, Nat.le_of_ble_eq_true rfl⟩ rfl rfl (Nat.le_of_ble_eq_true rfl) dL_law_1919 rfl (kS ?_) kN
        refine v_iload (pc' := 1924) hc_law dL_law_1922 rfl 1 rfl ?_
        refine v_icmp_eq (pt := 1929) (pf := 1927) hc_law dL_law_1924 rfl rfl e (fun _ e => ?_) (fun _ e => ?_)
        · refine v_iload (pc' := 1931) hc_law dL_law_1929 rfl 1 rfl ?_
          refine v_if_ne (pt := 1946) (pf := 1934) hc_law dL_law_1931 rfl rfl e (fun _ e => ?_) (fun _ e => ?_)
          · refine v_aload_n (pc' := 1935) hc_law dL_law_1934 rfl rfl 5 rfl ?_
            refine v_iconst (pc' := 1936) (v := 0) hc_law dL_law_1935 rfl rfl ?_
            refine v_lald (pc' := 1937) hc_law dL_law_1936 rfl e (fun v411 _ e => ?_)
            refine v_iload (pc' := 1939) hc_law dL_law_1937 rfl 0 rfl ?_
            refine v_i2l (pc' := 1940) hc_law dL_law_1939 rfl ?_
            refine v_lcmp (pc' := 1941) hc_law dL_law_1940 rfl ?_
            refine v_if_eq (pt := 1946) (pf := 1944) hc_law dL_law_1941 rfl rfl e (fun _ e => ?_) (fun _ e => ?_)
            · refine v_goto (pt := 2222) hc_law dL_law_1946 rfl ?_
              refine v_iinc (pc' := 2225) (lv' := [(5, .int (x5 + 4)), (7, .int r404), (6, .int r399), (0, .ref x0), (1, .ref x1), (2, .ref x2), (3, .ref x3), (4, .ref x4)]) (v := x5 + 4) hc_law dL_law_2222 rfl 7 rfl rfl (Nat.le_of_ble_eq_true rfl) rfl ?_
              refine v_goto (pt := 28) hc_law dL_law_2225 rfl ?_
              refine v_pick [3, 4, 5, 6, 7, 0] rfl ?_
              exact IH x0 x1 x2 x3 x4 (x5 + 4) h409 e
            · refine v_iconst (pc' := 1945) (v := 0) hc_law dL_law_1944 rfl rfl ?_
              obtain ⟨rfl, rfl⟩ := ret_of e
              exact v_zret hc_law rfl (ft := .boolean) rfl dL_law_1945 rfl rfl
          · refine v_goto (pt := 2222) hc_law dL_law_1946 rfl ?_
            refine v_iinc (pc' := 2225) (lv' := [(5, .int (x5 + 4)), (7, .int r404), (6, .int r399), (0, .ref x0), (1, .ref x1), (2, .ref x2), (3, .ref x3), (4, .ref x4)]) (v := x5 + 4) hc_law dL_law_2222 rfl 7 rfl rfl (Nat.le_of_ble_eq_true rfl) rfl ?_
            refine v_goto (pt := 28) hc_law dL_law_2225 rfl ?_
            refine v_pick [3, 4, 5, 6, 7, 0] rfl ?_
            exact IH x0 x1 x2 x3 x4 (x5 + 4) h409 e
        · refine v_iconst (pc' := 1928) (v := 0) hc_law dL_law_1927 rfl rfl ?_
          obtain ⟨rfl, rfl⟩ := ret_of e
          exact v_zret hc_law rfl (ft := .boolean) rfl dL_law_1928 rfl rfl
      rcases ite_cs e with ⟨n425, e⟩ | ⟨n425, e⟩
      · refine v_tbl (off := 1905) (pt := 1949) hc_law dL_law_44 rfl rfl (by rw [n425]; rfl) rfl ?_
        refine v_aload_n (pc' := 1950) hc_law dL_law_1949 rfl rfl 1 rfl ?_
        refine v_aload_n (pc' := 1951) hc_law dL_law_1950 rfl rfl 3 rfl ?_
        obtain ⟨r413, h414, e415, e⟩ := bd2_of e
        refine k_SX (pc' := 1954) (x := ⟨"BlockPapersLaw", "read", "(LBlockPapers;[J)I"⟩) (n := 2) hc_law ho_law (w_X0_read D l hl x1 x3 h e415) (wA_l q1950) q1951 q74 q1952 hy_328 ⟨Nat.le_of_ble_eq_true rfl, Nat.le_of_ble_eq_true rfl⟩ rfl rfl (Nat.le_of_ble_eq_true rfl) dL_law_1951 rfl (kS ?_) kN
        refine v_istore (pc' := 1956) (lv' := [(6, .int r413), (0, .ref x0), (1, .ref x1), (2, .ref x2), (3, .ref x3), (4, .ref x4), (5, .int x5)]) hc_law dL_law_1954 rfl (Nat.le_of_ble_eq_true rfl) rfl ?_
        refine v_aload_n (pc' := 1957) hc_law dL_law_1956 rfl rfl 3 rfl ?_
        obtain ⟨c416, e⟩ := gd_of e
        obtain ⟨r417, h418, e419, e⟩ := bd2_of e
        refine k_V (pc' := 1960) (ci := 2) (n := 0) hc_law ho_law rfl c416 (w_X3_read D l hl x2 h414 e419) (wA_l q2619) q2620 (wA_l q2621) q85 q2622 hy_335 ⟨Nat.le_of_ble_eq_true rfl, Nat.le_of_ble_eq_true rfl⟩ rfl rfl (Nat.le_of_ble_eq_true rfl) dL_law_1957 rfl (kS ?_) kN
        refine v_istore (pc' := 1962) (lv' := [(7, .int r417), (6, .int r413), (0, .ref x0), (1, .ref x1), (2, .ref x2), (3, .ref x3), (4, .ref x4), (5, .int x5)]) hc_law dL_law_1960 rfl (Nat.le_of_ble_eq_true rfl) rfl ?_
        refine v_aload_n (pc' := 1963) hc_law dL_law_1962 rfl rfl 4 rfl ?_
        obtain ⟨c420, e⟩ := gd_of e
        obtain ⟨r421, h422, e423, e⟩ := bd2_of e
        refine k_V (pc' := 1966) (ci := 2) (n := 0) hc_law ho_law rfl c420 (w_X3_thrown D l hl x2 h418 e423) (wA_l q2316) q2317 (wA_l q2318) q85 q2319 hy_126 ⟨Nat.le_of_ble_eq_true rfl, Nat.le_of_ble_eq_true rfl⟩ rfl rfl (Nat.le_of_ble_eq_true rfl) dL_law_1963 rfl (kS ?_) kN
        refine v_iload (pc' := 1968) hc_law dL_law_1966 rfl 1 rfl ?_
        refine v_icmp_eq (pt := 1973) (pf := 1971) hc_law dL_law_1968 rfl rfl e (fun _ e => ?_) (fun _ e => ?_)
        · refine v_iload (pc' := 1975) hc_law dL_law_1973 rfl 1 rfl ?_
          refine v_if_ne (pt := 1990) (pf := 1978) hc_law dL_law_1975 rfl rfl e (fun _ e => ?_) (fun _ e => ?_)
          · refine v_aload_n (pc' := 1979) hc_law dL_law_1978 rfl rfl 5 rfl ?_
            refine v_iconst (pc' := 1980) (v := 0) hc_law dL_law_1979 rfl rfl ?_
            refine v_lald (pc' := 1981) hc_law dL_law_1980 rfl e (fun v424 _ e => ?_)
            refine v_iload (pc' := 1983) hc_law dL_law_1981 rfl 0 rfl ?_
            refine v_i2l (pc' := 1984) hc_law dL_law_1983 rfl ?_
            refine v_lcmp (pc' := 1985) hc_law dL_law_1984 rfl ?_
            refine v_if_eq (pt := 1990) (pf := 1988) hc_law dL_law_1985 rfl rfl e (fun _ e => ?_) (fun _ e => ?_)
            · refine v_goto (pt := 2222) hc_law dL_law_1990 rfl ?_
              refine v_iinc (pc' := 2225) (lv' := [(5, .int (x5 + 4)), (7, .int r417), (6, .int r413), (0, .ref x0), (1, .ref x1), (2, .ref x2), (3, .ref x3), (4, .ref x4)]) (v := x5 + 4) hc_law dL_law_2222 rfl 7 rfl rfl (Nat.le_of_ble_eq_true rfl) rfl ?_
              refine v_goto (pt := 28) hc_law dL_law_2225 rfl ?_
              refine v_pick [3, 4, 5, 6, 7, 0] rfl ?_
              exact IH x0 x1 x2 x3 x4 (x5 + 4) h422 e
            · refine v_iconst (pc' := 1989) (v := 0) hc_law dL_law_1988 rfl rfl ?_
              obtain ⟨rfl, rfl⟩ := ret_of e
              exact v_zret hc_law rfl (ft := .boolean) rfl dL_law_1989 rfl rfl
          · refine v_goto (pt := 2222) hc_law dL_law_1990 rfl ?_
            refine v_iinc (pc' := 2225) (lv' := [(5, .int (x5 + 4)), (7, .int r417), (6, .int r413), (0, .ref x0), (1, .ref x1), (2, .ref x2), (3, .ref x3), (4, .ref x4)]) (v := x5 + 4) hc_law dL_law_2222 rfl 7 rfl rfl (Nat.le_of_ble_eq_true rfl) rfl ?_
            refine v_goto (pt := 28) hc_law dL_law_2225 rfl ?_
            refine v_pick [3, 4, 5, 6, 7, 0] rfl ?_
            exact IH x0 x1 x2 x3 x4 (x5 + 4) h422 e
        · refine v_iconst (pc' := 1972) (v := 0) hc_law dL_law_1971 rfl rfl ?_
          obtain ⟨rfl, rfl⟩ := ret_of e
          exact v_zret hc_law rfl (ft := .boolean) rfl dL_law_1972 rfl rfl
      rcases ite_cs e with ⟨n438, e⟩ | ⟨n438, e⟩
      · refine v_tbl (off := 1949) (pt := 1993) hc_law dL_law_44 rfl rfl (by rw [n438]; rfl) rfl ?_
        refine v_aload_n (pc' := 1994) hc_law dL_law_1993 rfl rfl 1 rfl ?_
        refine v_aload_n (pc' := 1995) hc_law dL_law_1994 rfl rfl 3 rfl ?_
        obtain ⟨r426, h427, e428, e⟩ := bd2_of e
        refine k_SX (pc' := 1998) (x := ⟨"BlockPapersLaw", "faultPosition", "(LBlockPapers;[J)I"⟩) (n := 2) hc_law ho_law (w_X0_faultPosition D l hl x1 x3 h e428) (wA_l q2170) q2171 q74 q2172 hy_337 ⟨Nat.le_of_ble_eq_true rfl, Nat.le_of_ble_eq_true rfl⟩ rfl rfl (Nat.le_of_ble_eq_true rfl) dL_law_1995 rfl (kS ?_) kN
        refine v_istore (pc' := 2000) (lv' := [(6, .int r426), (0, .ref x0), (1, .ref x1), (2, .ref x2), (3, .ref x3), (4, .ref x4), (5, .int x5)]) hc_law dL_law_1998 rfl (Nat.le_of_ble_eq_true rfl) rfl ?_
        refine v_aload_n (pc' := 2001) hc_law dL_law_2000 rfl rfl 3 rfl ?_
        obtain ⟨c429, e⟩ := gd_of e
        obtain ⟨r430, h431, e432, e⟩ := bd2_of e
        refine k_V (pc' := 2004) (ci := 2) (n := 0) hc_law ho_law rfl c429 (w_X3_faultPosition D l hl x2 h427 e432) (wA_l q2654) q2655 (wA_l q2656) q85 q2657 hy_338 ⟨Nat.le_of_ble_eq_true rfl, Nat.le_of_ble_eq_true rfl⟩ rfl rfl (Nat.le_of_ble_eq_true rfl) dL_law_2001 rfl (kS ?_) kN
        refine v_istore (pc' := 2006) (lv' := [(7, .int r430), (6, .int r426), (0, .ref x0), (1, .ref x1), (2, .ref x2), (3, .ref x3), (4, .ref x4), (5, .int x5)]) hc_law dL_law_2004 rfl (Nat.le_of_ble_eq_true rfl) rfl ?_
        refine v_aload_n (pc' := 2007) hc_law dL_law_2006 rfl rfl 4 rfl ?_
        obtain ⟨c433, e⟩ := gd_of e
        obtain ⟨r434, h435, e436, e⟩ := bd2_of e
        refine k_V (pc' := 2010) (ci := 2) (n := 0) hc_law ho_law rfl c433 (w_X3_thrown D l hl x2 h431 e436) (wA_l q2316) q2317 (wA_l q2318) q85 q2319 hy_126 ⟨Nat.le_of_ble_eq_true rfl, Nat.le_of_ble_eq_true rfl⟩ rfl rfl (Nat.le_of_ble_eq_true rfl) dL_law_2007 rfl (kS ?_) kN
        refine v_iload (pc' := 2012) hc_law dL_law_2010 rfl 1 rfl ?_
        refine v_icmp_eq (pt := 2017) (pf := 2015) hc_law dL_law_2012 rfl rfl e (fun _ e => ?_) (fun _ e => ?_)
        · refine v_iload (pc' := 2019) hc_law dL_law_2017 rfl 1 rfl ?_
          refine v_if_ne (pt := 2034) (pf := 2022) hc_law dL_law_2019 rfl rfl e (fun _ e => ?_) (fun _ e => ?_)
          · refine v_aload_n (pc' := 2023) hc_law dL_law_2022 rfl rfl 5 rfl ?_
            refine v_iconst (pc' := 2024) (v := 0) hc_law dL_law_2023 rfl rfl ?_
            refine v_lald (pc' := 2025) hc_law dL_law_2024 rfl e (fun v437 _ e => ?_)
            refine v_iload (pc' := 2027) hc_law dL_law_2025 rfl 0 rfl ?_
            refine v_i2l (pc' := 2028) hc_law dL_law_2027 rfl ?_
            refine v_lcmp (pc' := 2029) hc_law dL_law_2028 rfl ?_
            refine v_if_eq (pt := 2034) (pf := 2032) hc_law dL_law_2029 rfl rfl e (fun _ e => ?_) (fun _ e => ?_)
            · refine v_goto (pt := 2222) hc_law dL_law_2034 rfl ?_
              refine v_iinc (pc' := 2225) (lv' := [(5, .int (x5 + 4)), (7, .int r430), (6, .int r426), (0, .ref x0), (1, .ref x1), (2, .ref x2), (3, .ref x3), (4, .ref x4)]) (v := x5 + 4) hc_law dL_law_2222 rfl 7 rfl rfl (Nat.le_of_ble_eq_true rfl) rfl ?_
              refine v_goto (pt := 28) hc_law dL_law_2225 rfl ?_
              refine v_pick [3, 4, 5, 6, 7, 0] rfl ?_
              exact IH x0 x1 x2 x3 x4 (x5 + 4) h435 e
            · refine v_iconst (pc' := 2033) (v := 0) hc_law dL_law_2032 rfl rfl ?_
              obtain ⟨rfl, rfl⟩ := ret_of e
              exact v_zret hc_law rfl (ft := .boolean) rfl dL_law_2033 rfl rfl
          · refine v_goto (pt := 2222) hc_law dL_law_2034 rfl ?_
            refine v_iinc (pc' := 2225) (lv' := [(5, .int (x5 + 4)), (7, .int r430), (6, .int r426), (0, .ref x0), (1, .ref x1), (2, .ref x2), (3, .ref x3), (4, .ref x4)]) (v := x5 + 4) hc_law dL_law_2222 rfl 7 rfl rfl (Nat.le_of_ble_eq_true rfl) rfl ?_
            refine v_goto (pt := 28) hc_law dL_law_2225 rfl ?_
            refine v_pick [3, 4, 5, 6, 7, 0] rfl ?_
            exact IH x0 x1 x2 x3 x4 (x5 + 4) h435 e
        · refine v_iconst (pc' := 2016) (v := 0) hc_law dL_law_2015 rfl rfl ?_
          obtain ⟨rfl, rfl⟩ := ret_of e
          exact v_zret hc_law rfl (ft := .boolean) rfl dL_law_2016 rfl rfl
      rcases ite_cs e with ⟨n441, e⟩ | ⟨n441, e⟩
      · refine v_tbl (off := 1993) (pt := 2037) hc_law dL_law_44 rfl rfl (by rw [n441]; rfl) rfl ?_
        refine v_aload_n (pc' := 2038) hc_law dL_law_2037 rfl rfl 1 rfl ?_
        refine v_aload_n (pc' := 2039) hc_law dL_law_2038 rfl rfl 0 rfl ?_
        refine v_iload (pc' := 2041) hc_law dL_law_2039 rfl 5 rfl ?_
        refine v_iconst (pc' := 2042) (v := 1) hc_law dL_law_2041 rfl rfl ?_
        refine v_iadd (pc' := 2043) hc_law dL_law_2042 rfl ?_
        refine v_iald (pc' := 2044) hc_law dL_law_2043 rfl e (fun v439 _ e => ?_)
        refine v_aload_n (pc' := 2045) hc_law dL_law_2044 rfl rfl 0 rfl ?_
        refine v_iload (pc' := 2047) hc_law dL_law_2045 rfl 5 rfl ?_
        refine v_iconst (pc' := 2048) (v := 2) hc_law dL_law_2047 rfl rfl ?_
        refine v_iadd (pc' := 2049) hc_law dL_law_2048 rfl ?_
        refine v_iald (pc' := 2050) hc_law dL_law_2049 rfl e (fun v440 _ e => ?_)
        refine v_if_eq (pt := 2057) (pf := 2053) hc_law dL_law_2050 rfl rfl e (fun _ e => ?_) (fun _ e => ?_)
        · refine v_iconst (pc' := 2058) (v := 0) hc_law dL_law_2057 rfl rfl ?_
          exact w_law_j2058 D l hl as h0 (f_law_l28 n) IH x0 x1 x2 x3 x4 x5 x1 v439 (0 : Int32) h e
        · refine v_iconst (pc' := 2054) (v := 1) hc_law dL_law_2053 rfl rfl ?_
          refine v_goto (pt := 2058) hc_law dL_law_2054 rfl ?_
          exact w_law_j2058 D l hl as h0 (f_law_l28 n) IH x0 x1 x2 x3 x4 x5 x1 v439 (1 : Int32) h e
      rcases ite_cs e with ⟨n454, e⟩ | ⟨n454, e⟩
      · refine v_tbl (off := 2077) (pt := 2121) hc_law dL_law_44 rfl rfl (by rw [n454]; rfl) rfl ?_
        refine v_aload_n (pc' := 2122) hc_law dL_law_2121 rfl rfl 1 rfl ?_
        refine v_aload_n (pc' := 2123) hc_law dL_law_2122 rfl rfl 3 rfl ?_
        obtain ⟨r442, h443, e444, e⟩ := bd2_of e
        refine k_SX (pc' := 2126) (x := ⟨"BlockPapersLaw", "undo", "(LBlockPapers;[J)I"⟩) (n := 2) hc_law ho_law (w_X0_undo D l hl x1 x3 h e444) (wA_l q2196) q2197 q74 q2198 hy_350 ⟨Nat.le_of_ble_eq_true rfl, Nat.le_of_ble_eq_true rfl⟩ rfl rfl (Nat.le_of_ble_eq_true rfl) dL_law_2123 rfl (kS ?_) kN
        refine v_istore (pc' := 2128) (lv' := [(6, .int r442), (0, .ref x0), (1, .ref x1), (2, .ref x2), (3, .ref x3), (4, .ref x4), (5, .int x5)]) hc_law dL_law_2126 rfl (Nat.le_of_ble_eq_true rfl) rfl ?_
        refine v_aload_n (pc' := 2129) hc_law dL_law_2128 rfl rfl 3 rfl ?_
        obtain ⟨c445, e⟩ := gd_of e
        obtain ⟨r446, h447, e448, e⟩ := bd2_of e
        refine k_V (pc' := 2132) (ci := 2) (n := 0) hc_law ho_law rfl c445 (w_X3_undo D l hl x2 h443 e448) (wA_l q2662) q2663 (wA_l q2664) q85 q2665 hy_351 ⟨Nat.le_of_ble_eq_true rfl, Nat.le_of_ble_eq_true rfl⟩ rfl rfl (Nat.le_of_ble_eq_true rfl) dL_law_2129 rfl (kS ?_) kN
        refine v_istore (pc' := 2134) (lv' := [(7, .int r446), (6, .int r442), (0, .ref x0), (1, .ref x1), (2, .ref x2), (3, .ref x3), (4, .ref x4), (5, .int x5)]) hc_law dL_law_2132 rfl (Nat.le_of_ble_eq_true rfl) rfl ?_
        refine v_aload_n (pc' := 2135) hc_law dL_law_2134 rfl rfl 4 rfl ?_
        obtain ⟨c449, e⟩ := gd_of e
        obtain ⟨r450, h451, e452, e⟩ := bd2_of e
        refine k_V (pc' := 2138) (ci := 2) (n := 0) hc_law ho_law rfl c449 (w_X3_thrown D l hl x2 h447 e452) (wA_l q2316) q2317 (wA_l q2318) q85 q2319 hy_126 ⟨Nat.le_of_ble_eq_true rfl, Nat.le_of_ble_eq_true rfl⟩ rfl rfl (Nat.le_of_ble_eq_true rfl) dL_law_2135 rfl (kS ?_) kN
        refine v_iload (pc' := 2140) hc_law dL_law_2138 rfl 1 rfl ?_
        refine v_icmp_eq (pt := 2145) (pf := 2143) hc_law dL_law_2140 rfl rfl e (fun _ e => ?_) (fun _ e => ?_)
        · refine v_iload (pc' := 2147) hc_law dL_law_2145 rfl 1 rfl ?_
          refine v_if_ne (pt := 2162) (pf := 2150) hc_law dL_law_2147 rfl rfl e (fun _ e => ?_) (fun _ e => ?_)
          · refine v_aload_n (pc' := 2151) hc_law dL_law_2150 rfl rfl 5 rfl ?_
            refine v_iconst (pc' := 2152) (v := 0) hc_law dL_law_2151 rfl rfl ?_
            refine v_lald (pc' := 2153) hc_law dL_law_2152 rfl e (fun v453 _ e => ?_)
            refine v_iload (pc' := 2155) hc_law dL_law_2153 rfl 0 rfl ?_
            refine v_i2l (pc' := 2156) hc_law dL_law_2155 rfl ?_
            refine v_lcmp (pc' := 2157) hc_law dL_law_2156 rfl ?_
            refine v_if_eq (pt := 2162) (pf := 2160) hc_law dL_law_2157 rfl rfl e (fun _ e => ?_) (fun _ e => ?_)
            · refine v_goto (pt := 2222) hc_law dL_law_2162 rfl ?_
              refine v_iinc (pc' := 2225) (lv' := [(5, .int (x5 + 4)), (7, .int r446), (6, .int r442), (0, .ref x0), (1, .ref x1), (2, .ref x2), (3, .ref x3), (4, .ref x4)]) (v := x5 + 4) hc_law dL_law_2222 rfl 7 rfl rfl (Nat.le_of_ble_eq_true rfl) rfl ?_
              refine v_goto (pt := 28) hc_law dL_law_2225 rfl ?_
              refine v_pick [3, 4, 5, 6, 7, 0] rfl ?_
              exact IH x0 x1 x2 x3 x4 (x5 + 4) h451 e
            · refine v_iconst (pc' := 2161) (v := 0) hc_law dL_law_2160 rfl rfl ?_
              obtain ⟨rfl, rfl⟩ := ret_of e
              exact v_zret hc_law rfl (ft := .boolean) rfl dL_law_2161 rfl rfl
          · refine v_goto (pt := 2222) hc_law dL_law_2162 rfl ?_
            refine v_iinc (pc' := 2225) (lv' := [(5, .int (x5 + 4)), (7, .int r446), (6, .int r442), (0, .ref x0), (1, .ref x1), (2, .ref x2), (3, .ref x3), (4, .ref x4)]) (v := x5 + 4) hc_law dL_law_2222 rfl 7 rfl rfl (Nat.le_of_ble_eq_true rfl) rfl ?_
            refine v_goto (pt := 28) hc_law dL_law_2225 rfl ?_
            refine v_pick [3, 4, 5, 6, 7, 0] rfl ?_
            exact IH x0 x1 x2 x3 x4 (x5 + 4) h451 e
        · refine v_iconst (pc' := 2144) (v := 0) hc_law dL_law_2143 rfl rfl ?_
          obtain ⟨rfl, rfl⟩ := ret_of e
          exact v_zret hc_law rfl (ft := .boolean) rfl dL_law_2144 rfl rfl
      rcases ite_cs e with ⟨n463, e⟩ | ⟨n463, e⟩
      · refine v_tbl (off := 2121) (pt := 2165) hc_law dL_law_44 rfl rfl (by rw [n463]; rfl) rfl ?_
        refine v_aload_n (pc' := 2166) hc_law dL_law_2165 rfl rfl 1 rfl ?_
        obtain ⟨c455, e⟩ := gd_of e
        obtain ⟨r456, h457, e458, e⟩ := bd2_of e
        refine k_V (pc' := 2169) (ci := 0) (n := 0) hc_law ho_law rfl c455 (w_X1_saveSnapshot D l hl x1 h e458) (wA_l q551) q552 (wA_l q553) q75 q554 hy_352 ⟨Nat.le_of_ble_eq_true rfl, Nat.le_of_ble_eq_true rfl⟩ rfl rfl (Nat.le_of_ble_eq_true rfl) dL_law_2166 rfl (kS ?_) kN
        refine v_aload_n (pc' := 2170) hc_law dL_law_2169 rfl rfl 2 rfl ?_
        obtain ⟨c459, e⟩ := gd_of e
        obtain ⟨r460, h461, e462, e⟩ := bd2_of e
        refine k_V (pc' := 2173) (ci := 2) (n := 0) hc_law ho_law rfl c459 (w_X3_saveSnapshot D l hl x2 h457 e462) (wA_l q2666) q2667 (wA_l q2668) q85 q2669 hy_353 ⟨Nat.le_of_ble_eq_true rfl, Nat.le_of_ble_eq_true rfl⟩ rfl rfl (Nat.le_of_ble_eq_true rfl) dL_law_2170 rfl (kS ?_) kN
        refine v_icmp_eq (pt := 2222) (pf := 2176) hc_law dL_law_2173 rfl rfl e (fun _ e => ?_) (fun _ e => ?_)
        · refine v_iinc (pc' := 2225) (lv' := [(5, .int (x5 + 4)), (0, .ref x0), (1, .ref x1), (2, .ref x2), (3, .ref x3), (4, .ref x4)]) (v := x5 + 4) hc_law dL_law_2222 rfl 5 rfl rfl (Nat.le_of_ble_eq_true rfl) rfl ?_
          refine v_goto (pt := 28) hc_law dL_law_2225 rfl ?_
          refine v_pick [1, 2, 3, 4, 5, 0] rfl ?_
          exact IH x0 x1 x2 x3 x4 (x5 + 4) h461 e
        · refine v_iconst (pc' := 2177) (v := 0) hc_law dL_law_2176 rfl rfl ?_
          obtain ⟨rfl, rfl⟩ := ret_of e
          exact v_zret hc_law rfl (ft := .boolean) rfl dL_law_2177 rfl rfl
      rcases ite_cs e with ⟨n476, e⟩ | ⟨n476, e⟩
      · refine v_tbl (off := 2134) (pt := 2178) hc_law dL_law_44 rfl rfl (by rw [n476]; rfl) rfl ?_
        refine v_aload_n (pc' := 2179) hc_law dL_law_2178 rfl rfl 1 rfl ?_
        refine v_aload_n (pc' := 2180) hc_law dL_law_2179 rfl rfl 3 rfl ?_
        obtain ⟨r464, h465, e466, e⟩ := bd2_of e
        refine k_SX (pc' := 2183) (x := ⟨"BlockPapersLaw", "restoreSnapshot", "(LBlockPapers;[J)I"⟩) (n := 2) hc_law ho_law (w_X0_restoreSnapshot D l hl x1 x3 h e466) (wA_l q2222) q2223 q74 q2224 hy_357 ⟨Nat.le_of_ble_eq_true rfl, Nat.le_of_ble_eq_true rfl⟩ rfl rfl (Nat.le_of_ble_eq_true rfl) dL_law_2180 rfl (kS ?_) kN
        refine v_istore (pc' := 2185) (lv' := [(6, .int r464), (0, .ref x0), (1, .ref x1), (2, .ref x2), (3, .ref x3), (4, .ref x4), (5, .int x5)]) hc_law dL_law_2183 rfl (Nat.le_of_ble_eq_true rfl) rfl ?_
        refine v_aload_n (pc' := 2186) hc_law dL_law_2185 rfl rfl 3 rfl ?_
        obtain ⟨c467, e⟩ := gd_of e
        obtain ⟨r468, h469, e470, e⟩ := bd2_of e
        refine k_V (pc' := 2189) (ci := 2) (n := 0) hc_law ho_law rfl c467 (w_X3_restoreSnapshot D l hl x2 h465 e470) (wA_l q2670) q2671 (wA_l q2672) q85 q2673 hy_358 ⟨Nat.le_of_ble_eq_true rfl, Nat.le_of_ble_eq_true rfl⟩ rfl rfl (Nat.le_of_ble_eq_true rfl) dL_law_2186 rfl (kS ?_) kN
        refine v_istore (pc' := 2191) (lv' := [(7, .int r468), (6, .int r464), (0, .ref x0), (1, .ref x1), (2, .ref x2), (3, .ref x3), (4, .ref x4), (5, .int x5)]) hc_law dL_law_2189 rfl (Nat.le_of_ble_eq_true rfl) rfl ?_
        refine v_aload_n (pc' := 2192) hc_law dL_law_2191 rfl rfl 4 rfl ?_
        obtain ⟨c471, e⟩ := gd_of e
        obtain ⟨r472, h473, e474, e⟩ := bd2_of e
        refine k_V (pc' := 2195) (ci := 2) (n := 0) hc_law ho_law rfl c471 (w_X3_thrown D l hl x2 h469 e474) (wA_l q2316) q2317 (wA_l q2318) q85 q2319 hy_126 ⟨Nat.le_of_ble_eq_true rfl, Nat.le_of_ble_eq_true rfl⟩ rfl rfl (Nat.le_of_ble_eq_true rfl) dL_law_2192 rfl (kS ?_) kN
        refine v_iload (pc' := 2197) hc_law dL_law_2195 rfl 1 rfl ?_
        refine v_icmp_eq (pt := 2202) (pf := 2200) hc_law dL_law_2197 rfl rfl e (fun _ e => ?_) (fun _ e => ?_)
        · refine v_iload (pc' := 2204) hc_law dL_law_2202 rfl 1 rfl ?_
          refine v_if_ne (pt := 2219) (pf := 2207) hc_law dL_law_2204 rfl rfl e (fun _ e => ?_) (fun _ e => ?_)
          · refine v_aload_n (pc' := 2208) hc_law dL_law_2207 rfl rfl 5 rfl ?_
            refine v_iconst (pc' := 2209) (v := 0) hc_law dL_law_2208 rfl rfl ?_
            refine v_lald (pc' := 2210) hc_law dL_law_2209 rfl e (fun v475 _ e => ?_)
            refine v_iload (pc' := 2212) hc_law dL_law_2210 rfl 0 rfl ?_
            refine v_i2l (pc' := 2213) hc_law dL_law_2212 rfl ?_
            refine v_lcmp (pc' := 2214) hc_law dL_law_2213 rfl ?_
            refine v_if_eq (pt := 2219) (pf := 2217) hc_law dL_law_2214 rfl rfl e (fun _ e => ?_) (fun _ e => ?_)
            · refine v_goto (pt := 2222) hc_law dL_law_2219 rfl ?_
              refine v_iinc (pc' := 2225) (lv' := [(5, .int (x5 + 4)), (7, .int r468), (6, .int r464), (0, .ref x0), (1, .ref x1), (2, .ref x2), (3, .ref x3), (4, .ref x4)]) (v := x5 + 4) hc_law dL_law_2222 rfl 7 rfl rfl (Nat.le_of_ble_eq_true rfl) rfl ?_
              refine v_goto (pt := 28) hc_law dL_law_2225 rfl ?_
              refine v_pick [3, 4, 5, 6, 7, 0] rfl ?_
              exact IH x0 x1 x2 x3 x4 (x5 + 4) h473 e
            · refine v_iconst (pc' := 2218) (v := 0) hc_law dL_law_2217 rfl rfl ?_
              obtain ⟨rfl, rfl⟩ := ret_of e
              exact v_zret hc_law rfl (ft := .boolean) rfl dL_law_2218 rfl rfl
          · refine v_goto (pt := 2222) hc_law dL_law_2219 rfl ?_
            refine v_iinc (pc' := 2225) (lv' := [(5, .int (x5 + 4)), (7, .int r468), (6, .int r464), (0, .ref x0), (1, .ref x1), (2, .ref x2), (3, .ref x3), (4, .ref x4)]) (v := x5 + 4) hc_law dL_law_2222 rfl 7 rfl rfl (Nat.le_of_ble_eq_true rfl) rfl ?_
            refine v_goto (pt := 28) hc_law dL_law_2225 rfl ?_
            refine v_pick [3, 4, 5, 6, 7, 0] rfl ?_
            exact IH x0 x1 x2 x3 x4 (x5 + 4) h473 e
        · refine v_iconst (pc' := 2201) (v := 0) hc_law dL_law_2200 rfl rfl ?_
          obtain ⟨rfl, rfl⟩ := ret_of e
          exact v_zret hc_law rfl (ft := .boolean) rfl dL_law_2201 rfl rfl
      refine v_tbl (off := 2178) (pt := 2222) hc_law dL_law_44 rfl rfl (lk_c (lk_n n5 rfl) (lk_c (lk_n n22 rfl) (lk_c (lk_n n37 rfl) (lk_c (lk_n n56 rfl) (lk_c (lk_n n73 rfl) (lk_c (lk_n n92 rfl) (lk_c (lk_n n111 rfl) (lk_c (lk_n n128 rfl) (lk_c (lk_n n143 rfl) (lk_c (lk_n n160 rfl) (lk_c (lk_n n177 rfl) (lk_c (lk_n n196 rfl) (lk_c (lk_n n213 rfl) (lk_c (lk_n n217 rfl) (lk_c (lk_n n232 rfl) (lk_c (lk_n n247 rfl) (lk_c (lk_n n262 rfl) (lk_c (lk_n n277 rfl) (lk_c (lk_n n294 rfl) (lk_c (lk_n n311 rfl) (lk_c (lk_n n326 rfl) (lk_c (lk_n n341 rfl) (lk_c (lk_n n356 rfl) (lk_c (lk_n n366 rfl) (lk_c (lk_n n381 rfl) (lk_c (lk_n n397 rfl) (lk_c (lk_n n412 rfl) (lk_c (lk_n n425 rfl) (lk_c (lk_n n438 rfl) (lk_c (lk_n n441 rfl) (lk_c (lk_n n454 rfl) (lk_c (lk_n n463 rfl) (lk_c (lk_n n476 rfl) lk_z))))))))))))))))))))))))))))))))) rfl ?_
      refine v_iinc (pc' := 2225) (lv' := [(5, .int (x5 + 4)), (0, .ref x0), (1, .ref x1), (2, .ref x2), (3, .ref x3), (4, .ref x4)]) (v := x5 + 4) hc_law dL_law_2222 rfl 5 rfl rfl (Nat.le_of_ble_eq_true rfl) rfl ?_
      refine v_goto (pt := 28) hc_law dL_law_2225 rfl ?_
      refine v_pick [1, 2, 3, 4, 5, 0] rfl ?_
      exact IH x0 x1 x2 x3 x4 (x5 + 4) h e
def f_law (x0 : Nat) (h : AH) : Option (Int32 × AH) :=
  bd2 (nwX h 0 7 fsX1) fun a2 h1 =>
  bd2 (f_X1_init a2 h1) fun r3 h4 =>
  bd2 (nwX h4 2 24 fsX3) fun a7 h6 =>
  bd2 (f_X3_init a7 h6) fun r8 h9 =>
  bd2 (nwA h9 1 (1 : Int32)) fun a11 h12 =>
  bd2 (nwA h12 2 (1 : Int32)) fun a13 h14 =>
  f_law_l28 NN x0 a2 a7 a11 a13 (0 : Int32) h14
theorem v_law (D : va_G) (l : Launch) (hl : l.stackTraces = false) (as : List Value) (h0 : AH) {r : Int32} {hF : AH} (x0 : Nat) (h : AH) (e : f_law x0 h = some (r, hF)) : V (G_law D l as h0 hF (oI r)) h 0 [(0, .ref x0)] [] := by
  unfold f_law at e
  refine v_newX (pc' := 3) hc_law ho_law KX1 q121 q122 q75 rfl dfX1 dL_law_0 rfl e (fun a2 h1 _ e => ?_)
  refine v_dup (pc' := 4) hc_law dL_law_3 rfl rfl ?_
  obtain ⟨r3, h4, e5, e⟩ := bd2_of e
  refine k_I (pc' := 7) (n := 0) hc_law ho_law (w_X1_init D l hl a2 h1 e5) (wA_l q123) q124 q75 q125 rfl hy_7 ⟨Nat.le_of_ble_eq_true rfl, Nat.le_of_ble_eq_true rfl⟩ rfl rfl (Nat.le_of_ble_eq_true rfl) dL_law_4 rfl (kU ?_) kN
  refine v_astore_n (pc' := 8) (lv' := [(1, .ref a2), (0, .ref x0)]) hc_law dL_law_7 rfl rfl (Nat.le_of_ble_eq_true rfl) rfl ?_
  refine v_newX (pc' := 11) hc_law ho_law KX3 q2236 q2237 q85 rfl dfX3 dL_law_8 rfl e (fun a7 h6 _ e => ?_)
  refine v_dup (pc' := 12) hc_law dL_law_11 rfl rfl ?_
  obtain ⟨r8, h9, e10, e⟩ := bd2_of e
  refine k_I (pc' := 15) (n := 0) hc_law ho_law (w_X3_init D l hl a7 h6 e10) (wA_l q2238) q2239 q85 q2240 rfl hy_8 ⟨Nat.le_of_ble_eq_true rfl, Nat.le_of_ble_eq_true rfl⟩ rfl rfl (Nat.le_of_ble_eq_true rfl) dL_law_12 rfl (kU ?_) kN
  refine v_astore_n (pc' := 16) (lv' := [(2, .ref a7), (1, .ref a2), (0, .ref x0)]) hc_law dL_law_15 rfl rfl (Nat.le_of_ble_eq_true rfl) rfl ?_
  refine v_iconst (pc' := 17) (v := 1) hc_law dL_law_16 rfl rfl ?_
  refine v_newa (pc' := 19) (k := 1) (at0 := .long) hc_law rfl (by decide) q2674 dL_law_17 rfl e (fun a11 h12 _ e => ?_)
  refine v_astore_n (pc' := 20) (lv' := [(3, .ref a11), (2, .ref a7), (1, .ref a2), (0, .ref x0)]) hc_law dL_law_19 rfl rfl (Nat.le_of_ble_eq_true rfl) rfl ?_
  refine v_iconst (pc' := 21) (v := 1) hc_law dL_law_20 rfl rfl ?_
  refine v_newa (pc' := 23) (k := 2) (at0 := .double) hc_law rfl (by decide) q2675 dL_law_21 rfl e (fun a13 h14 _ e => ?_)
  refine v_astore (pc' := 25) (lv' := [(4, .ref a13), (3, .ref a11), (2, .ref a7), (1, .ref a2), (0, .ref x0)]) hc_law dL_law_23 rfl (Nat.le_of_ble_eq_true rfl) rfl ?_
  refine v_iconst (pc' := 26) (v := 0) hc_law dL_law_25 rfl rfl ?_
  refine v_istore (pc' := 28) (lv' := [(5, .int (0 : Int32)), (4, .ref a13), (3, .ref a11), (2, .ref a7), (1, .ref a2), (0, .ref x0)]) hc_law dL_law_26 rfl (Nat.le_of_ble_eq_true rfl) rfl ?_
  refine v_pick [5, 4, 3, 2, 1, 0] rfl ?_
  exact w_law_l28 D l hl as h0 NN x0 a2 a7 a11 a13 (0 : Int32) h14 e
