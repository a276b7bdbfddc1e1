/-! walks (printed by gen/printall.py) -/
set_option maxRecDepth 100000
set_option maxHeartbeats 1000000
/-! BlockPapersModel.<init>()V  -/
abbrev G_X3_init (D : va_G) (l : Launch) (as : List Value) (h0 hF : AH) (o : Out) : CT := (D, l, (yX3_init.cls, yX3_init, cX3_init, 1, (Option.none : Option FieldType), 1, 48, []), as, h0, hF, o)
theorem hc_X3_init {D : va_G} {l : Launch} {as : List Value} {h0 hF : AH} {o : Out} : gC (G_X3_init D l as h0 hF o) = cX3_init := rfl
theorem ho_X3_init {D : va_G} {l : Launch} {as : List Value} {h0 hF : AH} {o : Out} : gO (G_X3_init D l as h0 hF o) = "BlockPapersModel" := rfl
theorem hp_X3_init {D : va_G} {l : Launch} {as : List Value} {h0 hF : AH} {o : Out} (pc : Nat) : ∀ z ∈ tableOf (gHd (G_X3_init D l as h0 hF o)), covers z pc = false := hpN
def f_X3_init (x0 : Nat) (h : AH) : Option (Unit × AH) :=
  bd2 (nwA h 0 (793 : Int32)) fun a1 h2 =>
  bd (stF h2 2 x0 1 (.ref a1)) fun h3 =>
  bd2 (nwA h3 0 (793 : Int32)) fun a4 h5 =>
  bd (stF h5 2 x0 2 (.ref a4)) fun h6 =>
  bd2 (nwA h6 0 (793 : Int32)) fun a7 h8 =>
  bd (stF h8 2 x0 3 (.ref a7)) fun h9 =>
  bd2 (nwA h9 0 (6344 : Int32)) fun a10 h11 =>
  bd (stF h11 2 x0 4 (.ref a10)) fun h12 =>
  bd2 (nwA h12 0 (793 : Int32)) fun a13 h14 =>
  bd (stF h14 2 x0 5 (.ref a13)) fun h15 =>
  bd2 (nwA h15 0 (60 : Int32)) fun a16 h17 =>
  bd (stF h17 2 x0 8 (.ref a16)) fun h18 =>
  bd2 (nwA h18 0 (120 : Int32)) fun a19 h20 =>
  bd (stF h20 2 x0 9 (.ref a19)) fun h21 =>
  bd2 (nwA h21 0 (60 : Int32)) fun a22 h23 =>
  bd (stF h23 2 x0 10 (.ref a22)) fun h24 =>
  bd (stF h24 2 x0 13 (.int (-1 : Int32))) fun h25 =>
  bd (gtR h25 2 x0 1) fun v26 =>
  bd (stI h25 v26 (0 : Int32) (0 : Int32)) fun h27 =>
  some ((), h27)
theorem v_X3_init (D : va_G) (l : Launch) (hl : l.stackTraces = false) (as : List Value) (h0 : AH) {r : Unit} {hF : AH} (x0 : Nat) (h : AH) (e : f_X3_init x0 h = some (r, hF)) : V (G_X3_init D l as h0 hF (oV r)) h 0 [(0, .ref x0)] [] := by
  unfold f_X3_init at e
  refine v_aload_n (pc' := 1) hc_X3_init dX3_init_0 rfl rfl 0 rfl ?_
  refine v_oinit (pc' := 4) hc_X3_init ho_X3_init q2241 q127 q128 ⟨Nat.le_of_ble_eq_true rfl, Nat.le_of_ble_eq_true rfl⟩ dX3_init_1 rfl ?_
  refine v_aload_n (pc' := 5) hc_X3_init dX3_init_4 rfl rfl 0 rfl ?_
  refine v_sipush (pc' := 8) (v := 793) hc_X3_init dX3_init_5 rfl rfl ?_
  refine v_newa (pc' := 10) (k := 0) (at0 := .int) hc_X3_init rfl (by decide) q2315 dX3_init_8 rfl e (fun a1 h2 _ e => ?_)
  refine v_pfF (pc' := 13) hc_X3_init ho_X3_init rfl KX3 1 (Nat.le_of_ble_eq_true rfl) q2243 rfl rfl rfl dX3_init_10 rfl rfl rfl e (fun h3 _ e => ?_)
  refine v_aload_n (pc' := 14) hc_X3_init dX3_init_13 rfl rfl 0 rfl ?_
  refine v_sipush (pc' := 17) (v := 793) hc_X3_init dX3_init_14 rfl rfl ?_
  refine v_newa (pc' := 19) (k := 0) (at0 := .int) hc_X3_init rfl (by decide) q2315 dX3_init_17 rfl e (fun a4 h5 _ e => ?_)
  refine v_pfF (pc' := 22) hc_X3_init ho_X3_init rfl KX3 2 (Nat.le_of_ble_eq_true rfl) q2244 rfl rfl rfl dX3_init_19 rfl rfl rfl e (fun h6 _ e => ?_)
  refine v_aload_n (pc' := 23) hc_X3_init dX3_init_22 rfl rfl 0 rfl ?_
  refine v_sipush (pc' := 26) (v := 793) hc_X3_init dX3_init_23 rfl rfl ?_
  refine v_newa (pc' := 28) (k := 0) (at0 := .int) hc_X3_init rfl (by decide) q2315 dX3_init_26 rfl e (fun a7 h8 _ e => ?_)
  refine v_pfF (pc' := 31) hc_X3_init ho_X3_init rfl KX3 3 (Nat.le_of_ble_eq_true rfl) q2245 rfl rfl rfl dX3_init_28 rfl rfl rfl e (fun h9 _ e => ?_)
  refine v_aload_n (pc' := 32) hc_X3_init dX3_init_31 rfl rfl 0 rfl ?_
  refine v_sipush (pc' := 35) (v := 6344) hc_X3_init dX3_init_32 rfl rfl ?_
  refine v_newa (pc' := 37) (k := 0) (at0 := .int) hc_X3_init rfl (by decide) q2315 dX3_init_35 rfl e (fun a10 h11 _ e => ?_)
  refine v_pfF (pc' := 40) hc_X3_init ho_X3_init rfl KX3 4 (Nat.le_of_ble_eq_true rfl) q2246 rfl rfl rfl dX3_init_37 rfl rfl rfl e (fun h12 _ e => ?_)
  refine v_aload_n (pc' := 41) hc_X3_init dX3_init_40 rfl rfl 0 rfl ?_
  refine v_sipush (pc' := 44) (v := 793) hc_X3_init dX3_init_41 rfl rfl ?_
  refine v_newa (pc' := 46) (k := 0) (at0 := .int) hc_X3_init rfl (by decide) q2315 dX3_init_44 rfl e (fun a13 h14 _ e => ?_)
  refine v_pfF (pc' := 49) hc_X3_init ho_X3_init rfl KX3 5 (Nat.le_of_ble_eq_true rfl) q2247 rfl rfl rfl dX3_init_46 rfl rfl rfl e (fun h15 _ e => ?_)
  refine v_aload_n (pc' := 50) hc_X3_init dX3_init_49 rfl rfl 0 rfl ?_
  refine v_bipush (pc' := 52) (v := 60) hc_X3_init dX3_init_50 rfl rfl ?_
  refine v_newa (pc' := 54) (k := 0) (at0 := .int) hc_X3_init rfl (by decide) q2315 dX3_init_52 rfl e (fun a16 h17 _ e => ?_)
  refine v_pfF (pc' := 57) hc_X3_init ho_X3_init rfl KX3 8 (Nat.le_of_ble_eq_true rfl) q2250 rfl rfl rfl dX3_init_54 rfl rfl rfl e (fun h18 _ e => ?_)
  refine v_aload_n (pc' := 58) hc_X3_init dX3_init_57 rfl rfl 0 rfl ?_
  refine v_bipush (pc' := 60) (v := 120) hc_X3_init dX3_init_58 rfl rfl ?_
  refine v_newa (pc' := 62) (k := 0) (at0 := .int) hc_X3_init rfl (by decide) q2315 dX3_init_60 rfl e (fun a19 h20 _ e => ?_)
  refine v_pfF (pc' := 65) hc_X3_init ho_X3_init rfl KX3 9 (Nat.le_of_ble_eq_true rfl) q2251 rfl rfl rfl dX3_init_62 rfl rfl rfl e (fun h21 _ e => ?_)
  refine v_aload_n (pc' := 66) hc_X3_init dX3_init_65 rfl rfl 0 rfl ?_
  refine v_bipush (pc' := 68) (v := 60) hc_X3_init dX3_init_66 rfl rfl ?_
  refine v_newa (pc' := 70) (k := 0) (at0 := .int) hc_X3_init rfl (by decide) q2315 dX3_init_68 rfl e (fun a22 h23 _ e => ?_)
  refine v_pfF (pc' := 73) hc_X3_init ho_X3_init rfl KX3 10 (Nat.le_of_ble_eq_true rfl) q2252 rfl rfl rfl dX3_init_70 rfl rfl rfl e (fun h24 _ e => ?_)
  refine v_aload_n (pc' := 74) hc_X3_init dX3_init_73 rfl rfl 0 rfl ?_
  refine v_iconst (pc' := 75) (v := (-1)) hc_X3_init dX3_init_74 rfl rfl ?_
  refine v_pf (pc' := 78) hc_X3_init ho_X3_init KX3 13 (Nat.le_of_ble_eq_true rfl) q2255 (Or.inl rfl) rfl dX3_init_75 rfl rfl rfl e (fun h25 _ e => ?_)
  refine v_aload_n (pc' := 79) hc_X3_init dX3_init_78 rfl rfl 0 rfl ?_
  refine v_gfR (pc' := 82) hc_X3_init ho_X3_init KX3 1 (Nat.le_of_ble_eq_true rfl) q2243 (Or.inl rfl) dX3_init_79 rfl e (fun v26 _ e => ?_)
  refine v_iconst (pc' := 83) (v := 0) hc_X3_init dX3_init_82 rfl rfl ?_
  refine v_iconst (pc' := 84) (v := 0) hc_X3_init dX3_init_83 rfl rfl ?_
  refine v_iast (pc' := 85) hc_X3_init dX3_init_84 rfl e (fun h27 _ e => ?_)
  obtain ⟨rfl, rfl⟩ := ret_of e
  exact v_ret hc_X3_init rfl dX3_init_85 rfl rfl
theorem w_X3_init (D : va_G) (l : Launch) (hl : l.stackTraces = false) (x0 : Nat) (h : AH) {r : Unit} {hF : AH} (e : f_X3_init x0 h = some (r, hF)) : MetV D l yX3_init (Cond.code yX3_init cX3_init 1 (Option.none : Option FieldType)) 1 48 [.ref x0] h hF (oV r) :=
  met_ofF (by decide +kernel) hl (Nat.le_of_ble_eq_true rfl) rfl (v_X3_init D l hl [.ref x0] h x0 h e)
/-! BlockPapersModel.remembers()V  -/
abbrev G_X3_remembers (D : va_G) (l : Launch) (as : List Value) (h0 hF : AH) (o : Out) : CT := (D, l, (yX3_remembers.cls, yX3_remembers, cX3_remembers, 2, (Option.none : Option FieldType), 1, 48, []), as, h0, hF, o)
theorem hc_X3_remembers {D : va_G} {l : Launch} {as : List Value} {h0 hF : AH} {o : Out} : gC (G_X3_remembers D l as h0 hF o) = cX3_remembers := rfl
theorem ho_X3_remembers {D : va_G} {l : Launch} {as : List Value} {h0 hF : AH} {o : Out} : gO (G_X3_remembers D l as h0 hF o) = "BlockPapersModel" := rfl
theorem hp_X3_remembers {D : va_G} {l : Launch} {as : List Value} {h0 hF : AH} {o : Out} (pc : Nat) : ∀ z ∈ tableOf (gHd (G_X3_remembers D l as h0 hF o)), covers z pc = false := hpN
def fb_X3_remembers_l2 (rec : Nat → Int32 → AH → Option (Unit × AH)) (x0 : Nat) (x1 : Int32) (h : AH) : Option (Unit × AH) :=
  if (793 : Int32) ≤ x1 then (
    some ((), h)
  ) else (
    bd (gtR h 2 x0 2) fun v1 =>
    bd (gtR h 2 x0 1) fun v2 =>
    bd (ldI h 0 v2 x1) fun v3 =>
    bd (stI h v1 x1 v3) fun h4 =>
    rec x0 (x1 + 1) h4
  )
def f_X3_remembers_l2 : Nat → Nat → Int32 → AH → Option (Unit × AH)
  | 0 => fun _ _ _ => none
  | n + 1 => fb_X3_remembers_l2 (f_X3_remembers_l2 n) 
theorem w_X3_remembers_l2 (D : va_G) (l : Launch) (hl : l.stackTraces = false) (as : List Value) (h0 : AH) {r : Unit} {hF : AH} : ∀ (n : Nat) (x0 : Nat) (x1 : Int32) (h : AH), f_X3_remembers_l2 n x0 x1 h = some (r, hF) → V (G_X3_remembers D l as h0 hF (oV r)) h 2 [(0, .ref x0), (1, .int x1)] [] := by
  intro n; induction n with
  | zero => intro x0 x1 h e; exact absurd (show (none : Option (Unit × AH)) = some _ from e) (fun z => nomatch z)
  | succ n IH =>
    intro x0 x1 h e
    have e : fb_X3_remembers_l2 (f_X3_remembers_l2 n) x0 x1 h = some (r, hF) := e
    unfold fb_X3_remembers_l2 at e
    refine v_iload_n (pc' := 3) hc_X3_remembers dX3_remembers_2 rfl rfl 1 rfl ?_
    refine v_sipush (pc' := 6) (v := 793) hc_X3_remembers dX3_remembers_3 rfl rfl ?_
    refine v_icmp_ge (pt := 27) (pf := 9) hc_X3_remembers dX3_remembers_6 rfl rfl e (fun _ e => ?_) (fun _ e => ?_)
    · obtain ⟨rfl, rfl⟩ := ret_of e
      exact v_ret hc_X3_remembers rfl dX3_remembers_27 rfl rfl
    · refine v_aload_n (pc' := 10) hc_X3_remembers dX3_remembers_9 rfl rfl 0 rfl ?_
      refine v_gfR (pc' := 13) hc_X3_remembers ho_X3_remembers KX3 2 (Nat.le_of_ble_eq_true rfl) q2244 (Or.inl rfl) dX3_remembers_10 rfl e (fun v1 _ e => ?_)
      refine v_iload_n (pc' := 14) hc_X3_remembers dX3_remembers_13 rfl rfl 1 rfl ?_
      refine v_aload_n (pc' := 15) hc_X3_remembers dX3_remembers_14 rfl rfl 0 rfl ?_
      refine v_gfR (pc' := 18) hc_X3_remembers ho_X3_remembers KX3 1 (Nat.le_of_ble_eq_true rfl) q2243 (Or.inl rfl) dX3_remembers_15 rfl e (fun v2 _ e => ?_)
      refine v_iload_n (pc' := 19) hc_X3_remembers dX3_remembers_18 rfl rfl 1 rfl ?_
      refine v_iald (pc' := 20) hc_X3_remembers dX3_remembers_19 rfl e (fun v3 _ e => ?_)
      refine v_iast (pc' := 21) hc_X3_remembers dX3_remembers_20 rfl e (fun h4 _ e => ?_)
      refine v_iinc (pc' := 24) (lv' := [(1, .int (x1 + 1)), (0, .ref x0)]) (v := x1 + 1) hc_X3_remembers dX3_remembers_21 rfl 1 rfl rfl (Nat.le_of_ble_eq_true rfl) rfl ?_
      refine v_goto (pt := 2) hc_X3_remembers dX3_remembers_24 rfl ?_
      refine v_pick [1, 0] rfl ?_
      exact IH x0 (x1 + 1) h4 e
def f_X3_remembers (x0 : Nat) (h : AH) : Option (Unit × AH) :=
  f_X3_remembers_l2 NN x0 (0 : Int32) h
theorem v_X3_remembers (D : va_G) (l : Launch) (hl : l.stackTraces = false) (as : List Value) (h0 : AH) {r : Unit} {hF : AH} (x0 : Nat) (h : AH) (e : f_X3_remembers x0 h = some (r, hF)) : V (G_X3_remembers D l as h0 hF (oV r)) h 0 [(0, .ref x0)] [] := by
  unfold f_X3_remembers at e
  refine v_iconst (pc' := 1) (v := 0) hc_X3_remembers dX3_remembers_0 rfl rfl ?_
  refine v_istore_n (pc' := 2) (lv' := [(1, .int (0 : Int32)), (0, .ref x0)]) hc_X3_remembers dX3_remembers_1 rfl rfl (Nat.le_of_ble_eq_true rfl) rfl ?_
  refine v_pick [1, 0] rfl ?_
  exact w_X3_remembers_l2 D l hl as h0 NN x0 (0 : Int32) h e
theorem w_X3_remembers (D : va_G) (l : Launch) (hl : l.stackTraces = false) (x0 : Nat) (h : AH) {r : Unit} {hF : AH} (e : f_X3_remembers x0 h = some (r, hF)) : MetV D l yX3_remembers (Cond.code yX3_remembers cX3_remembers 2 (Option.none : Option FieldType)) 1 48 [.ref x0] h hF (oV r) :=
  met_ofF (by decide +kernel) hl (Nat.le_of_ble_eq_true rfl) rfl (v_X3_remembers D l hl [.ref x0] h x0 h e)
/-! BlockPapersModel.in(III)Z  -/
abbrev G_X3_in (D : va_G) (l : Launch) (as : List Value) (h0 hF : AH) (o : Out) : CT := (D, l, (yX3_in.cls, yX3_in, cX3_in, 3, (Option.some .boolean), 1, 48, []), as, h0, hF, o)
theorem hc_X3_in {D : va_G} {l : Launch} {as : List Value} {h0 hF : AH} {o : Out} : gC (G_X3_in D l as h0 hF o) = cX3_in := rfl
theorem ho_X3_in {D : va_G} {l : Launch} {as : List Value} {h0 hF : AH} {o : Out} : gO (G_X3_in D l as h0 hF o) = "BlockPapersModel" := rfl
theorem hp_X3_in {D : va_G} {l : Launch} {as : List Value} {h0 hF : AH} {o : Out} (pc : Nat) : ∀ z ∈ tableOf (gHd (G_X3_in D l as h0 hF o)), covers z pc = false := hpN
def f_X3_in (x0 : Int32) (x1 : Int32) (x2 : Int32) (h : AH) : Option (Int32 × AH) :=
  if x0 < x1 then (
    some ((0 : Int32), h)
  ) else (
    if x2 < x0 then (
      some ((0 : Int32), h)
    ) else (
      some ((1 : Int32), h)
    )
  )
theorem v_X3_in (D : va_G) (l : Launch) (hl : l.stackTraces = false) (as : List Value) (h0 : AH) {r : Int32} {hF : AH} (x0 : Int32) (x1 : Int32) (x2 : Int32) (h : AH) (e : f_X3_in x0 x1 x2 h = some (r, hF)) : V (G_X3_in D l as h0 hF (oI r)) h 0 [(0, .int x0), (1, .int x1), (2, .int x2)] [] := by
  unfold f_X3_in at e
  refine v_iload_n (pc' := 1) hc_X3_in dX3_in_0 rfl rfl 0 rfl ?_
  refine v_iload_n (pc' := 2) hc_X3_in dX3_in_1 rfl rfl 1 rfl ?_
  refine v_icmp_lt (pt := 14) (pf := 5) hc_X3_in dX3_in_2 rfl rfl e (fun _ e => ?_) (fun _ e => ?_)
  · refine v_iconst (pc' := 15) (v := 0) hc_X3_in dX3_in_14 rfl rfl ?_
    obtain ⟨rfl, rfl⟩ := ret_of e
    exact v_zret hc_X3_in rfl (ft := .boolean) rfl dX3_in_15 rfl rfl
  · refine v_iload_n (pc' := 6) hc_X3_in dX3_in_5 rfl rfl 0 rfl ?_
    refine v_iload_n (pc' := 7) hc_X3_in dX3_in_6 rfl rfl 2 rfl ?_
    refine v_icmp_gt (pt := 14) (pf := 10) hc_X3_in dX3_in_7 rfl rfl e (fun _ e => ?_) (fun _ e => ?_)
    · refine v_iconst (pc' := 15) (v := 0) hc_X3_in dX3_in_14 rfl rfl ?_
      obtain ⟨rfl, rfl⟩ := ret_of e
      exact v_zret hc_X3_in rfl (ft := .boolean) rfl dX3_in_15 rfl rfl
    · refine v_iconst (pc' := 11) (v := 1) hc_X3_in dX3_in_10 rfl rfl ?_
      refine v_goto (pt := 15) hc_X3_in dX3_in_11 rfl ?_
      obtain ⟨rfl, rfl⟩ := ret_of e
      exact v_zret hc_X3_in rfl (ft := .boolean) rfl dX3_in_15 rfl rfl
theorem w_X3_in (D : va_G) (l : Launch) (hl : l.stackTraces = false) (x0 : Int32) (x1 : Int32) (x2 : Int32) (h : AH) {r : Int32} {hF : AH} (e : f_X3_in x0 x1 x2 h = some (r, hF)) : MetV D l yX3_in (Cond.code yX3_in cX3_in 3 (Option.some .boolean)) 1 48 [.int x0, .int x1, .int x2] h hF (oI r) :=
  met_ofF (by decide +kernel) hl (Nat.le_of_ble_eq_true rfl) rfl (v_X3_in D l hl [.int x0, .int x1, .int x2] h x0 x1 x2 h e)
/-! BlockPapersModel.fails(I)I  -/
abbrev G_X3_fails (D : va_G) (l : Launch) (as : List Value) (h0 hF : AH) (o : Out) : CT := (D, l, (yX3_fails.cls, yX3_fails, cX3_fails, 2, (Option.some .int), 1, 48, []), as, h0, hF, o)
theorem hc_X3_fails {D : va_G} {l : Launch} {as : List Value} {h0 hF : AH} {o : Out} : gC (G_X3_fails D l as h0 hF o) = cX3_fails := rfl
theorem ho_X3_fails {D : va_G} {l : Launch} {as : List Value} {h0 hF : AH} {o : Out} : gO (G_X3_fails D l as h0 hF o) = "BlockPapersModel" := rfl
theorem hp_X3_fails {D : va_G} {l : Launch} {as : List Value} {h0 hF : AH} {o : Out} (pc : Nat) : ∀ z ∈ tableOf (gHd (G_X3_fails D l as h0 hF o)), covers z pc = false := hpN
def f_X3_fails (x0 : Nat) (x1 : Int32) (h : AH) : Option (Int32 × AH) :=
  bd (stF h 2 x0 0 (.int x1)) fun h1 =>
  some ((0 : Int32), h1)
theorem v_X3_fails (D : va_G) (l : Launch) (hl : l.stackTraces = false) (as : List Value) (h0 : AH) {r : Int32} {hF : AH} (x0 : Nat) (x1 : Int32) (h : AH) (e : f_X3_fails x0 x1 h = some (r, hF)) : V (G_X3_fails D l as h0 hF (oI r)) h 0 [(0, .ref x0), (1, .int x1)] [] := by
  unfold f_X3_fails at e
  refine v_aload_n (pc' := 1) hc_X3_fails dX3_fails_0 rfl rfl 0 rfl ?_
  refine v_iload_n (pc' := 2) hc_X3_fails dX3_fails_1 rfl rfl 1 rfl ?_
  refine v_pf (pc' := 5) hc_X3_fails ho_X3_fails KX3 0 (Nat.le_of_ble_eq_true rfl) q2242 (Or.inl rfl) rfl dX3_fails_2 rfl rfl rfl e (fun h1 _ e => ?_)
  refine v_iconst (pc' := 6) (v := 0) hc_X3_fails dX3_fails_5 rfl rfl ?_
  obtain ⟨rfl, rfl⟩ := ret_of e
  exact v_iret hc_X3_fails rfl dX3_fails_6 rfl rfl
theorem w_X3_fails (D : va_G) (l : Launch) (hl : l.stackTraces = false) (x0 : Nat) (x1 : Int32) (h : AH) {r : Int32} {hF : AH} (e : f_X3_fails x0 x1 h = some (r, hF)) : MetV D l yX3_fails (Cond.code yX3_fails cX3_fails 2 (Option.some .int)) 1 48 [.ref x0, .int x1] h hF (oI r) :=
  met_ofF (by decide +kernel) hl (Nat.le_of_ble_eq_true rfl) rfl (v_X3_fails D l hl [.ref x0, .int x1] h x0 x1 h e)
/-! BlockPapersModel.refused(II)I  -/
abbrev G_X3_refused (D : va_G) (l : Launch) (as : List Value) (h0 hF : AH) (o : Out) : CT := (D, l, (yX3_refused.cls, yX3_refused, cX3_refused, 3, (Option.some .int), 1, 48, []), as, h0, hF, o)
theorem hc_X3_refused {D : va_G} {l : Launch} {as : List Value} {h0 hF : AH} {o : Out} : gC (G_X3_refused D l as h0 hF o) = cX3_refused := rfl
theorem ho_X3_refused {D : va_G} {l : Launch} {as : List Value} {h0 hF : AH} {o : Out} : gO (G_X3_refused D l as h0 hF o) = "BlockPapersModel" := rfl
theorem hp_X3_refused {D : va_G} {l : Launch} {as : List Value} {h0 hF : AH} {o : Out} (pc : Nat) : ∀ z ∈ tableOf (gHd (G_X3_refused D l as h0 hF o)), covers z pc = false := hpN
def f_X3_refused (x0 : Nat) (x1 : Int32) (x2 : Int32) (h : AH) : Option (Int32 × AH) :=
  bd (stF h 2 x0 18 (.int x2)) fun h1 =>
  some (x1, h1)
theorem v_X3_refused (D : va_G) (l : Launch) (hl : l.stackTraces = false) (as : List Value) (h0 : AH) {r : Int32} {hF : AH} (x0 : Nat) (x1 : Int32) (x2 : Int32) (h : AH) (e : f_X3_refused x0 x1 x2 h = some (r, hF)) : V (G_X3_refused D l as h0 hF (oI r)) h 0 [(0, .ref x0), (1, .int x1), (2, .int x2)] [] := by
  unfold f_X3_refused at e
  refine v_aload_n (pc' := 1) hc_X3_refused dX3_refused_0 rfl rfl 0 rfl ?_
  refine v_iload_n (pc' := 2) hc_X3_refused dX3_refused_1 rfl rfl 2 rfl ?_
  refine v_pf (pc' := 5) hc_X3_refused ho_X3_refused KX3 18 (Nat.le_of_ble_eq_true rfl) q2260 (Or.inl rfl) rfl dX3_refused_2 rfl rfl rfl e (fun h1 _ e => ?_)
  refine v_iload_n (pc' := 6) hc_X3_refused dX3_refused_5 rfl rfl 1 rfl ?_
  obtain ⟨rfl, rfl⟩ := ret_of e
  exact v_iret hc_X3_refused rfl dX3_refused_6 rfl rfl
theorem w_X3_refused (D : va_G) (l : Launch) (hl : l.stackTraces = false) (x0 : Nat) (x1 : Int32) (x2 : Int32) (h : AH) {r : Int32} {hF : AH} (e : f_X3_refused x0 x1 x2 h = some (r, hF)) : MetV D l yX3_refused (Cond.code yX3_refused cX3_refused 3 (Option.some .int)) 1 48 [.ref x0, .int x1, .int x2] h hF (oI r) :=
  met_ofF (by decide +kernel) hl (Nat.le_of_ble_eq_true rfl) rfl (v_X3_refused D l hl [.ref x0, .int x1, .int x2] h x0 x1 x2 h e)
/-! BlockPapersModel.done(I)I  -/
abbrev G_X3_done (D : va_G) (l : Launch) (as : List Value) (h0 hF : AH) (o : Out) : CT := (D, l, (yX3_done.cls, yX3_done, cX3_done, 2, (Option.some .int), 1, 48, []), as, h0, hF, o)
theorem hc_X3_done {D : va_G} {l : Launch} {as : List Value} {h0 hF : AH} {o : Out} : gC (G_X3_done D l as h0 hF o) = cX3_done := rfl
theorem ho_X3_done {D : va_G} {l : Launch} {as : List Value} {h0 hF : AH} {o : Out} : gO (G_X3_done D l as h0 hF o) = "BlockPapersModel" := rfl
theorem hp_X3_done {D : va_G} {l : Launch} {as : List Value} {h0 hF : AH} {o : Out} (pc : Nat) : ∀ z ∈ tableOf (gHd (G_X3_done D l as h0 hF o)), covers z pc = false := hpN
def f_X3_done (x0 : Nat) (x1 : Int32) (h : AH) : Option (Int32 × AH) :=
  bd (stF h 2 x0 19 (.int x1)) fun h1 =>
  some ((0 : Int32), h1)
theorem v_X3_done (D : va_G) (l : Launch) (hl : l.stackTraces = false) (as : List Value) (h0 : AH) {r : Int32} {hF : AH} (x0 : Nat) (x1 : Int32) (h : AH) (e : f_X3_done x0 x1 h = some (r, hF)) : V (G_X3_done D l as h0 hF (oI r)) h 0 [(0, .ref x0), (1, .int x1)] [] := by
  unfold f_X3_done at e
  refine v_aload_n (pc' := 1) hc_X3_done dX3_done_0 rfl rfl 0 rfl ?_
  refine v_iload_n (pc' := 2) hc_X3_done dX3_done_1 rfl rfl 1 rfl ?_
  refine v_pf (pc' := 5) hc_X3_done ho_X3_done KX3 19 (Nat.le_of_ble_eq_true rfl) q2261 (Or.inl rfl) rfl dX3_done_2 rfl rfl rfl e (fun h1 _ e => ?_)
  refine v_iconst (pc' := 6) (v := 0) hc_X3_done dX3_done_5 rfl rfl ?_
  obtain ⟨rfl, rfl⟩ := ret_of e
  exact v_iret hc_X3_done rfl dX3_done_6 rfl rfl
theorem w_X3_done (D : va_G) (l : Launch) (hl : l.stackTraces = false) (x0 : Nat) (x1 : Int32) (h : AH) {r : Int32} {hF : AH} (e : f_X3_done x0 x1 h = some (r, hF)) : MetV D l yX3_done (Cond.code yX3_done cX3_done 2 (Option.some .int)) 1 48 [.ref x0, .int x1] h hF (oI r) :=
  met_ofF (by decide +kernel) hl (Nat.le_of_ble_eq_true rfl) rfl (v_X3_done D l hl [.ref x0, .int x1] h x0 x1 h e)
/-! BlockPapersModel.blocks(IZ)I  -/
abbrev G_X3_blocks (D : va_G) (l : Launch) (as : List Value) (h0 hF : AH) (o : Out) : CT := (D, l, (yX3_blocks.cls, yX3_blocks, cX3_blocks, 4, (Option.some .int), 2, 70, []), as, h0, hF, o)
theorem hc_X3_blocks {D : va_G} {l : Launch} {as : List Value} {h0 hF : AH} {o : Out} : gC (G_X3_blocks D l as h0 hF o) = cX3_blocks := rfl
theorem ho_X3_blocks {D : va_G} {l : Launch} {as : List Value} {h0 hF : AH} {o : Out} : gO (G_X3_blocks D l as h0 hF o) = "BlockPapersModel" := rfl
theorem hp_X3_blocks {D : va_G} {l : Launch} {as : List Value} {h0 hF : AH} {o : Out} (pc : Nat) : ∀ z ∈ tableOf (gHd (G_X3_blocks D l as h0 hF o)), covers z pc = false := hpN
def f_X3_blocks_j54 (x0 : Nat) (x3 : Int32) (s0 : Nat) (s1 : Int32) (s2 : Int32) (h : AH) : Option (Int32 × AH) :=
  bd (stI h s0 s1 s2) fun h1 =>
  bd (gtR h1 2 x0 1) fun v2 =>
  bd (stI h1 v2 (0 : Int32) (x3 + (1 : Int32))) fun h3 =>
  gd (isC h3 2 x0) <|
  bd2 (f_X3_done x0 x3 h3) fun r5 h6 =>
  some (r5, h6)
theorem w_X3_blocks_j54 (D : va_G) (l : Launch) (hl : l.stackTraces = false) (as : List Value) (h0 : AH) {r : Int32} {hF : AH} (x0 : Nat) (x3 : Int32) (s0 : Nat) (s1 : Int32) (s2 : Int32) (h : AH) (e : f_X3_blocks_j54 x0 x3 s0 s1 s2 h = some (r, hF)) : V (G_X3_blocks D l as h0 hF (oI r)) h 54 [(0, .ref x0), (3, .int x3)] [.int s2, .int s1, .ref s0] := by
  unfold f_X3_blocks_j54 at e
  refine v_iast (pc' := 55) hc_X3_blocks dX3_blocks_54 rfl e (fun h1 _ e => ?_)
  refine v_aload_n (pc' := 56) hc_X3_blocks dX3_blocks_55 rfl rfl 0 rfl ?_
  refine v_gfR (pc' := 59) hc_X3_blocks ho_X3_blocks KX3 1 (Nat.le_of_ble_eq_true rfl) q2243 (Or.inl rfl) dX3_blocks_56 rfl e (fun v2 _ e => ?_)
  refine v_iconst (pc' := 60) (v := 0) hc_X3_blocks dX3_blocks_59 rfl rfl ?_
  refine v_iload_n (pc' := 61) hc_X3_blocks dX3_blocks_60 rfl rfl 1 rfl ?_
  refine v_iconst (pc' := 62) (v := 1) hc_X3_blocks dX3_blocks_61 rfl rfl ?_
  refine v_iadd (pc' := 63) hc_X3_blocks dX3_blocks_62 rfl ?_
  refine v_iast (pc' := 64) hc_X3_blocks dX3_blocks_63 rfl e (fun h3 _ e => ?_)
  refine v_aload_n (pc' := 65) hc_X3_blocks dX3_blocks_64 rfl rfl 0 rfl ?_
  refine v_iload_n (pc' := 66) hc_X3_blocks dX3_blocks_65 rfl rfl 1 rfl ?_
  obtain ⟨c4, e⟩ := gd_of e
  obtain ⟨r5, h6, e7, e⟩ := bd2_of e
  refine k_V (pc' := 69) (ci := 2) (n := 1) hc_X3_blocks ho_X3_blocks rfl c4 (w_X3_done D l hl x0 x3 h3 e7) (wA_l q2339) q2341 (wA_l qs27) q85 q2342 hy_121 ⟨Nat.le_of_ble_eq_true rfl, Nat.le_of_ble_eq_true rfl⟩ rfl rfl (Nat.le_of_ble_eq_true rfl) dX3_blocks_66 rfl (kS ?_) kN
  obtain ⟨rfl, rfl⟩ := ret_of e
  exact v_iret hc_X3_blocks rfl dX3_blocks_69 rfl rfl
def f_X3_blocks (x0 : Nat) (x1 : Int32) (x2 : Int32) (h : AH) : Option (Int32 × AH) :=
  bd (gtR h 2 x0 1) fun v1 =>
  bd (ldI h 0 v1 (0 : Int32)) fun v2 =>
  if v2 = (6 : Int32) then (
    gd (isC h 2 x0) <|
    bd2 (f_X3_refused x0 (1 : Int32) (6 : Int32) h) fun r4 h5 =>
    some (r4, h5)
  ) else (
    bd (gtR h 2 x0 1) fun v7 =>
    bd (stI h v7 ((7 : Int32) + ((4 : Int32) * v2)) x1) fun h8 =>
    bd (gtR h8 2 x0 1) fun v9 =>
    if x2 = 0 then (
      f_X3_blocks_j54 x0 v2 v9 (((7 : Int32) + ((4 : Int32) * v2)) + (1 : Int32)) (0 : Int32) h8
    ) else (
      f_X3_blocks_j54 x0 v2 v9 (((7 : Int32) + ((4 : Int32) * v2)) + (1 : Int32)) (1 : Int32) h8
    )
  )
theorem v_X3_blocks (D : va_G) (l : Launch) (hl : l.stackTraces = false) (as : List Value) (h0 : AH) {r : Int32} {hF : AH} (x0 : Nat) (x1 : Int32) (x2 : Int32) (h : AH) (e : f_X3_blocks x0 x1 x2 h = some (r, hF)) : V (G_X3_blocks D l as h0 hF (oI r)) h 0 [(0, .ref x0), (1, .int x1), (2, .int x2)] [] := by
  unfold f_X3_blocks at e
  refine v_aload_n (pc' := 1) hc_X3_blocks dX3_blocks_0 rfl rfl 0 rfl ?_
  refine v_gfR (pc' := 4) hc_X3_blocks ho_X3_blocks KX3 1 (Nat.le_of_ble_eq_true rfl) q2243 (Or.inl rfl) dX3_blocks_1 rfl e (fun v1 _ e => ?_)
  refine v_iconst (pc' := 5) (v := 0) hc_X3_blocks dX3_blocks_4 rfl rfl ?_
  refine v_iald (pc' := 6) hc_X3_blocks dX3_blocks_5 rfl e (fun v2 _ e => ?_)
  refine v_istore_n (pc' := 7) (lv' := [(3, .int v2), (0, .ref x0), (1, .int x1), (2, .int x2)]) hc_X3_blocks dX3_blocks_6 rfl rfl (Nat.le_of_ble_eq_true rfl) rfl ?_
  refine v_iload_n (pc' := 8) hc_X3_blocks dX3_blocks_7 rfl rfl 0 rfl ?_
  refine v_bipush (pc' := 10) (v := 6) hc_X3_blocks dX3_blocks_8 rfl rfl ?_
  refine v_icmp_ne (pt := 21) (pf := 13) hc_X3_blocks dX3_blocks_10 rfl rfl e (fun _ e => ?_) (fun _ e => ?_)
  · refine v_aload_n (pc' := 14) hc_X3_blocks dX3_blocks_13 rfl rfl 1 rfl ?_
    refine v_iconst (pc' := 15) (v := 1) hc_X3_blocks dX3_blocks_14 rfl rfl ?_
    refine v_bipush (pc' := 17) (v := 6) hc_X3_blocks dX3_blocks_15 rfl rfl ?_
    obtain ⟨c3, e⟩ := gd_of e
    obtain ⟨r4, h5, e6, e⟩ := bd2_of e
    refine k_V (pc' := 20) (ci := 2) (n := 2) hc_X3_blocks ho_X3_blocks rfl c3 (w_X3_refused D l hl x0 (1 : Int32) (6 : Int32) h e6) (wA_l q2335) q2337 (wA_l qs26) q85 q2338 hy_120 ⟨Nat.le_of_ble_eq_true rfl, Nat.le_of_ble_eq_true rfl⟩ rfl rfl (Nat.le_of_ble_eq_true rfl) dX3_blocks_17 rfl (kS ?_) kN
    obtain ⟨rfl, rfl⟩ := ret_of e
    exact v_iret hc_X3_blocks rfl dX3_blocks_20 rfl rfl
  · refine v_aload_n (pc' := 22) hc_X3_blocks dX3_blocks_21 rfl rfl 1 rfl ?_
    refine v_gfR (pc' := 25) hc_X3_blocks ho_X3_blocks KX3 1 (Nat.le_of_ble_eq_true rfl) q2243 (Or.inl rfl) dX3_blocks_22 rfl e (fun v7 _ e => ?_)
    refine v_bipush (pc' := 27) (v := 7) hc_X3_blocks dX3_blocks_25 rfl rfl ?_
    refine v_iconst (pc' := 28) (v := 4) hc_X3_blocks dX3_blocks_27 rfl rfl ?_
    refine v_iload_n (pc' := 29) hc_X3_blocks dX3_blocks_28 rfl rfl 0 rfl ?_
    refine v_imul (pc' := 30) hc_X3_blocks dX3_blocks_29 rfl ?_
    refine v_iadd (pc' := 31) hc_X3_blocks dX3_blocks_30 rfl ?_
    refine v_iload_n (pc' := 32) hc_X3_blocks dX3_blocks_31 rfl rfl 2 rfl ?_
    refine v_iast (pc' := 33) hc_X3_blocks dX3_blocks_32 rfl e (fun h8 _ e => ?_)
    refine v_aload_n (pc' := 34) hc_X3_blocks dX3_blocks_33 rfl rfl 1 rfl ?_
    refine v_gfR (pc' := 37) hc_X3_blocks ho_X3_blocks KX3 1 (Nat.le_of_ble_eq_true rfl) q2243 (Or.inl rfl) dX3_blocks_34 rfl e (fun v9 _ e => ?_)
    refine v_bipush (pc' := 39) (v := 7) hc_X3_blocks dX3_blocks_37 rfl rfl ?_
    refine v_iconst (pc' := 40) (v := 4) hc_X3_blocks dX3_blocks_39 rfl rfl ?_
    refine v_iload_n (pc' := 41) hc_X3_blocks dX3_blocks_40 rfl rfl 0 rfl ?_
    refine v_imul (pc' := 42) hc_X3_blocks dX3_blocks_41 rfl ?_
    refine v_iadd (pc' := 43) hc_X3_blocks dX3_blocks_42 rfl ?_
    refine v_iconst (pc' := 44) (v := 1) hc_X3_blocks dX3_blocks_43 rfl rfl ?_
    refine v_iadd (pc' := 45) hc_X3_blocks dX3_blocks_44 rfl ?_
    refine v_iload_n (pc' := 46) hc_X3_blocks dX3_blocks_45 rfl rfl 3 rfl ?_
    refine v_if_eq (pt := 53) (pf := 49) hc_X3_blocks dX3_blocks_46 rfl rfl e (fun _ e => ?_) (fun _ e => ?_)
    · refine v_iconst (pc' := 54) (v := 0) hc_X3_blocks dX3_blocks_53 rfl rfl ?_
      refine v_pick [1, 0] rfl ?_
      exact w_X3_blocks_j54 D l hl as h0 x0 v2 v9 (((7 : Int32) + ((4 : Int32) * v2)) + (1 : Int32)) (0 : Int32) h8 e
    · refine v_iconst (pc' := 50) (v := 1) hc_X3_blocks dX3_blocks_49 rfl rfl ?_
      refine v_goto (pt := 54) hc_X3_blocks dX3_blocks_50 rfl ?_
      refine v_pick [1, 0] rfl ?_
      exact w_X3_blocks_j54 D l hl as h0 x0 v2 v9 (((7 : Int32) + ((4 : Int32) * v2)) + (1 : Int32)) (1 : Int32) h8 e
theorem w_X3_blocks (D : va_G) (l : Launch) (hl : l.stackTraces = false) (x0 : Nat) (x1 : Int32) (x2 : Int32) (h : AH) {r : Int32} {hF : AH} (e : f_X3_blocks x0 x1 x2 h = some (r, hF)) : MetV D l yX3_blocks (Cond.code yX3_blocks cX3_blocks 4 (Option.some .int)) 2 70 [.ref x0, .int x1, .int x2] h hF (oI r) :=
  met_ofF (by decide +kernel) hl (Nat.le_of_ble_eq_true rfl) rfl (v_X3_blocks D l hl [.ref x0, .int x1, .int x2] h x0 x1 x2 h e)
/-! BlockPapersModel.changed(I)I  -/
abbrev G_X3_changed (D : va_G) (l : Launch) (as : List Value) (h0 hF : AH) (o : Out) : CT := (D, l, (yX3_changed.cls, yX3_changed, cX3_changed, 3, (Option.some .int), 1, 48, []), as, h0, hF, o)
theorem hc_X3_changed {D : va_G} {l : Launch} {as : List Value} {h0 hF : AH} {o : Out} : gC (G_X3_changed D l as h0 hF o) = cX3_changed := rfl
theorem ho_X3_changed {D : va_G} {l : Launch} {as : List Value} {h0 hF : AH} {o : Out} : gO (G_X3_changed D l as h0 hF o) = "BlockPapersModel" := rfl
theorem hp_X3_changed {D : va_G} {l : Launch} {as : List Value} {h0 hF : AH} {o : Out} (pc : Nat) : ∀ z ∈ tableOf (gHd (G_X3_changed D l as h0 hF o)), covers z pc = false := hpN
def fb_X3_changed_l55 (rec : Nat → Int32 → Int32 → AH → Option (Int32 × AH)) (x0 : Nat) (x1 : Int32) (x2 : Int32) (h : AH) : Option (Int32 × AH) :=
  if (793 : Int32) ≤ x2 then (
    some (x1, h)
  ) else (
    bd (gtR h 2 x0 4) fun v1 =>
    bd (gtI h 2 x0 6) fun v2 =>
    bd (gtR h 2 x0 2) fun v3 =>
    bd (ldI h 0 v3 x2) fun v4 =>
    bd (stI h v1 (((793 : Int32) * (v2 - (1 : Int32))) + x2) v4) fun h5 =>
    rec x0 x1 (x2 + 1) h5
  )
def f_X3_changed_l55 : Nat → Nat → Int32 → Int32 → AH → Option (Int32 × AH)
  | 0 => fun _ _ _ _ => none
  | n + 1 => fb_X3_changed_l55 (f_X3_changed_l55 n) 
theorem w_X3_changed_l55 (D : va_G) (l : Launch) (hl : l.stackTraces = false) (as : List Value) (h0 : AH) {r : Int32} {hF : AH} : ∀ (n : Nat) (x0 : Nat) (x1 : Int32) (x2 : Int32) (h : AH), f_X3_changed_l55 n x0 x1 x2 h = some (r, hF) → V (G_X3_changed D l as h0 hF (oI r)) h 55 [(0, .ref x0), (1, .int x1), (2, .int x2)] [] := by
  intro n; induction n with
  | zero => intro x0 x1 x2 h e; exact absurd (show (none : Option (Int32 × AH)) = some _ from e) (fun z => nomatch z)
  | succ n IH =>
    intro x0 x1 x2 h e
    have e : fb_X3_changed_l55 (f_X3_changed_l55 n) x0 x1 x2 h = some (r, hF) := e
    unfold fb_X3_changed_l55 at e
    refine v_iload_n (pc' := 56) hc_X3_changed dX3_changed_55 rfl rfl 2 rfl ?_
    refine v_sipush (pc' := 59) (v := 793) hc_X3_changed dX3_changed_56 rfl rfl ?_
    refine v_icmp_ge (pt := 91) (pf := 62) hc_X3_changed dX3_changed_59 rfl rfl e (fun _ e => ?_) (fun _ e => ?_)
    · refine v_iload_n (pc' := 92) hc_X3_changed dX3_changed_91 rfl rfl 1 rfl ?_
      obtain ⟨rfl, rfl⟩ := ret_of e
      exact v_iret hc_X3_changed rfl dX3_changed_92 rfl rfl
    · refine v_aload_n (pc' := 63) hc_X3_changed dX3_changed_62 rfl rfl 0 rfl ?_
      refine v_gfR (pc' := 66) hc_X3_changed ho_X3_changed KX3 4 (Nat.le_of_ble_eq_true rfl) q2246 (Or.inl rfl) dX3_changed_63 rfl e (fun v1 _ e => ?_)
      refine v_sipush (pc' := 69) (v := 793) hc_X3_changed dX3_changed_66 rfl rfl ?_
      refine v_aload_n (pc' := 70) hc_X3_changed dX3_changed_69 rfl rfl 0 rfl ?_
      refine v_gfI (pc' := 73) hc_X3_changed ho_X3_changed KX3 6 (Nat.le_of_ble_eq_true rfl) q2248 (Or.inl rfl) dX3_changed_70 rfl e (fun v2 _ e => ?_)
      refine v_iconst (pc' := 74) (v := 1) hc_X3_changed dX3_changed_73 rfl rfl ?_
      refine v_isub (pc' := 75) hc_X3_changed dX3_changed_74 rfl ?_
      refine v_imul (pc' := 76) hc_X3_changed dX3_changed_75 rfl ?_
      refine v_iload_n (pc' := 77) hc_X3_changed dX3_changed_76 rfl rfl 2 rfl ?_
      refine v_iadd (pc' := 78) hc_X3_changed dX3_changed_77 rfl ?_
      refine v_aload_n (pc' := 79) hc_X3_changed dX3_changed_78 rfl rfl 0 rfl ?_
      refine v_gfR (pc' := 82) hc_X3_changed ho_X3_changed KX3 2 (Nat.le_of_ble_eq_true rfl) q2244 (Or.inl rfl) dX3_changed_79 rfl e (fun v3 _ e => ?_)
      refine v_iload_n (pc' := 83) hc_X3_changed dX3_changed_82 rfl rfl 2 rfl ?_
      refine v_iald (pc' := 84) hc_X3_changed dX3_changed_83 rfl e (fun v4 _ e => ?_)
      refine v_iast (pc' := 85) hc_X3_changed dX3_changed_84 rfl e (fun h5 _ e => ?_)
      refine v_iinc (pc' := 88) (lv' := [(2, .int (x2 + 1)), (0, .ref x0), (1, .int x1)]) (v := x2 + 1) hc_X3_changed dX3_changed_85 rfl 2 rfl rfl (Nat.le_of_ble_eq_true rfl) rfl ?_
      refine v_goto (pt := 55) hc_X3_changed dX3_changed_88 rfl ?_
      refine v_pick [1, 2, 0] rfl ?_
      exact IH x0 x1 (x2 + 1) h5 e
def fb_X3_changed_l11 (rec : Nat → Int32 → Int32 → AH → Option (Int32 × AH)) (x0 : Nat) (x1 : Int32) (x2 : Int32) (h : AH) : Option (Int32 × AH) :=
  if (5551 : Int32) ≤ x2 then (
    f_X3_changed_l55 NN x0 x1 (0 : Int32) h
  ) else (
    bd (gtR h 2 x0 4) fun v1 =>
    bd (gtR h 2 x0 4) fun v2 =>
    bd (ldI h 0 v2 (x2 + (793 : Int32))) fun v3 =>
    bd (stI h v1 x2 v3) fun h4 =>
    rec x0 x1 (x2 + 1) h4
  )
def f_X3_changed_l11 : Nat → Nat → Int32 → Int32 → AH → Option (Int32 × AH)
  | 0 => fun _ _ _ _ => none
  | n + 1 => fb_X3_changed_l11 (f_X3_changed_l11 n) 
theorem w_X3_changed_l11 (D : va_G) (l : Launch) (hl : l.stackTraces = false) (as : List Value) (h0 : AH) {r : Int32} {hF : AH} : ∀ (n : Nat) (x0 : Nat) (x1 : Int32) (x2 : Int32) (h : AH), f_X3_changed_l11 n x0 x1 x2 h = some (r, hF) → V (G_X3_changed D l as h0 hF (oI r)) h 11 [(0, .ref x0), (1, .int x1), (2, .int x2)] [] := by
  intro n; induction n with
  | zero => intro x0 x1 x2 h e; exact absurd (show (none : Option (Int32 × AH)) = some _ from e) (fun z => nomatch z)
  | succ n IH =>
    intro x0 x1 x2 h e
    have e : fb_X3_changed_l11 (f_X3_changed_l11 n) x0 x1 x2 h = some (r, hF) := e
    unfold fb_X3_changed_l11 at e
    refine v_iload_n (pc' := 12) hc_X3_changed dX3_changed_11 rfl rfl 2 rfl ?_
    refine v_sipush (pc' := 15) (v := 5551) hc_X3_changed dX3_changed_12 rfl rfl ?_
    refine v_icmp_ge (pt := 40) (pf := 18) hc_X3_changed dX3_changed_15 rfl rfl e (fun _ e => ?_) (fun _ e => ?_)
    · refine v_goto (pt := 53) hc_X3_changed dX3_changed_40 rfl ?_
      refine v_iconst (pc' := 54) (v := 0) hc_X3_changed dX3_changed_53 rfl rfl ?_
      refine v_istore_n (pc' := 55) (lv' := [(2, .int (0 : Int32)), (0, .ref x0), (1, .int x1)]) hc_X3_changed dX3_changed_54 rfl rfl (Nat.le_of_ble_eq_true rfl) rfl ?_
      refine v_pick [1, 2, 0] rfl ?_
      exact w_X3_changed_l55 D l hl as h0 NN x0 x1 (0 : Int32) h e
    · refine v_aload_n (pc' := 19) hc_X3_changed dX3_changed_18 rfl rfl 0 rfl ?_
      refine v_gfR (pc' := 22) hc_X3_changed ho_X3_changed KX3 4 (Nat.le_of_ble_eq_true rfl) q2246 (Or.inl rfl) dX3_changed_19 rfl e (fun v1 _ e => ?_)
      refine v_iload_n (pc' := 23) hc_X3_changed dX3_changed_22 rfl rfl 2 rfl ?_
      refine v_aload_n (pc' := 24) hc_X3_changed dX3_changed_23 rfl rfl 0 rfl ?_
      refine v_gfR (pc' := 27) hc_X3_changed ho_X3_changed KX3 4 (Nat.le_of_ble_eq_true rfl) q2246 (Or.inl rfl) dX3_changed_24 rfl e (fun v2 _ e => ?_)
      refine v_iload_n (pc' := 28) hc_X3_changed dX3_changed_27 rfl rfl 2 rfl ?_
      refine v_sipush (pc' := 31) (v := 793) hc_X3_changed dX3_changed_28 rfl rfl ?_
      refine v_iadd (pc' := 32) hc_X3_changed dX3_changed_31 rfl ?_
      refine v_iald (pc' := 33) hc_X3_changed dX3_changed_32 rfl e (fun v3 _ e => ?_)
      refine v_iast (pc' := 34) hc_X3_changed dX3_changed_33 rfl e (fun h4 _ e => ?_)
      refine v_iinc (pc' := 37) (lv' := [(2, .int (x2 + 1)), (0, .ref x0), (1, .int x1)]) (v := x2 + 1) hc_X3_changed dX3_changed_34 rfl 2 rfl rfl (Nat.le_of_ble_eq_true rfl) rfl ?_
      refine v_goto (pt := 11) hc_X3_changed dX3_changed_37 rfl ?_
      refine v_pick [1, 2, 0] rfl ?_
      exact IH x0 x1 (x2 + 1) h4 e
def f_X3_changed (x0 : Nat) (x1 : Int32) (h : AH) : Option (Int32 × AH) :=
  bd (gtI h 2 x0 6) fun v1 =>
  if v1 = (8 : Int32) then (
    f_X3_changed_l11 NN x0 x1 (0 : Int32) h
  ) else (
    bd (gtI h 2 x0 6) fun v2 =>
    bd (stF h 2 x0 6 (.int (v2 + (1 : Int32)))) fun h3 =>
    f_X3_changed_l55 NN x0 x1 (0 : Int32) h3
  )
theorem v_X3_changed (D : va_G) (l : Launch) (hl : l.stackTraces = false) (as : List Value) (h0 : AH) {r : Int32} {hF : AH} (x0 : Nat) (x1 : Int32) (h : AH) (e : f_X3_changed x0 x1 h = some (r, hF)) : V (G_X3_changed D l as h0 hF (oI r)) h 0 [(0, .ref x0), (1, .int x1)] [] := by
  unfold f_X3_changed at e
  refine v_aload_n (pc' := 1) hc_X3_changed dX3_changed_0 rfl rfl 0 rfl ?_
  refine v_gfI (pc' := 4) hc_X3_changed ho_X3_changed KX3 6 (Nat.le_of_ble_eq_true rfl) q2248 (Or.inl rfl) dX3_changed_1 rfl e (fun v1 _ e => ?_)
  refine v_bipush (pc' := 6) (v := 8) hc_X3_changed dX3_changed_4 rfl rfl ?_
  refine v_icmp_ne (pt := 43) (pf := 9) hc_X3_changed dX3_changed_6 rfl rfl e (fun _ e => ?_) (fun _ e => ?_)
  · refine v_iconst (pc' := 10) (v := 0) hc_X3_changed dX3_changed_9 rfl rfl ?_
    refine v_istore_n (pc' := 11) (lv' := [(2, .int (0 : Int32)), (0, .ref x0), (1, .int x1)]) hc_X3_changed dX3_changed_10 rfl rfl (Nat.le_of_ble_eq_true rfl) rfl ?_
    refine v_pick [1, 2, 0] rfl ?_
    exact w_X3_changed_l11 D l hl as h0 NN x0 x1 (0 : Int32) h e
  · refine v_aload_n (pc' := 44) hc_X3_changed dX3_changed_43 rfl rfl 0 rfl ?_
    refine v_dup (pc' := 45) hc_X3_changed dX3_changed_44 rfl rfl ?_
    refine v_gfI (pc' := 48) hc_X3_changed ho_X3_changed KX3 6 (Nat.le_of_ble_eq_true rfl) q2248 (Or.inl rfl) dX3_changed_45 rfl e (fun v2 _ e => ?_)
    refine v_iconst (pc' := 49) (v := 1) hc_X3_changed dX3_changed_48 rfl rfl ?_
    refine v_iadd (pc' := 50) hc_X3_changed dX3_changed_49 rfl ?_
    refine v_pf (pc' := 53) hc_X3_changed ho_X3_changed KX3 6 (Nat.le_of_ble_eq_true rfl) q2248 (Or.inl rfl) rfl dX3_changed_50 rfl rfl rfl e (fun h3 _ e => ?_)
    refine v_iconst (pc' := 54) (v := 0) hc_X3_changed dX3_changed_53 rfl rfl ?_
    refine v_istore_n (pc' := 55) (lv' := [(2, .int (0 : Int32)), (0, .ref x0), (1, .int x1)]) hc_X3_changed dX3_changed_54 rfl rfl (Nat.le_of_ble_eq_true rfl) rfl ?_
    refine v_pick [1, 2, 0] rfl ?_
    exact w_X3_changed_l55 D l hl as h0 NN x0 x1 (0 : Int32) h3 e
theorem w_X3_changed (D : va_G) (l : Launch) (hl : l.stackTraces = false) (x0 : Nat) (x1 : Int32) (h : AH) {r : Int32} {hF : AH} (e : f_X3_changed x0 x1 h = some (r, hF)) : MetV D l yX3_changed (Cond.code yX3_changed cX3_changed 3 (Option.some .int)) 1 48 [.ref x0, .int x1] h hF (oI r) :=
  met_ofF (by decide +kernel) hl (Nat.le_of_ble_eq_true rfl) rfl (v_X3_changed D l hl [.ref x0, .int x1] h x0 x1 h e)
/-! BlockPapersModel.ends(II)I  -/
abbrev G_X3_ends (D : va_G) (l : Launch) (as : List Value) (h0 hF : AH) (o : Out) : CT := (D, l, (yX3_ends.cls, yX3_ends, cX3_ends, 3, (Option.some .int), 2, 70, []), as, h0, hF, o)
theorem hc_X3_ends {D : va_G} {l : Launch} {as : List Value} {h0 hF : AH} {o : Out} : gC (G_X3_ends D l as h0 hF o) = cX3_ends := rfl
theorem ho_X3_ends {D : va_G} {l : Launch} {as : List Value} {h0 hF : AH} {o : Out} : gO (G_X3_ends D l as h0 hF o) = "BlockPapersModel" := rfl
theorem hp_X3_ends {D : va_G} {l : Launch} {as : List Value} {h0 hF : AH} {o : Out} (pc : Nat) : ∀ z ∈ tableOf (gHd (G_X3_ends D l as h0 hF o)), covers z pc = false := hpN
def f_X3_ends (x0 : Nat) (x1 : Int32) (x2 : Int32) (h : AH) : Option (Int32 × AH) :=
  if x1 = 0 then (
    bd (gtI h 2 x0 19) fun v1 =>
    gd (isC h 2 x0) <|
    bd2 (f_X3_changed x0 v1 h) fun r3 h4 =>
    some (r3, h4)
  ) else (
    bd (stF h 2 x0 14 (.int x1)) fun h6 =>
    bd (gtI h6 2 x0 18) fun v7 =>
    bd (stF h6 2 x0 15 (.int v7)) fun h8 =>
    bd (stF h8 2 x0 16 (.int (0 : Int32))) fun h9 =>
    gd (isC h9 2 x0) <|
    bd2 (f_X3_fails x0 x2 h9) fun r11 h12 =>
    some (r11, h12)
  )
theorem v_X3_ends (D : va_G) (l : Launch) (hl : l.stackTraces = false) (as : List Value) (h0 : AH) {r : Int32} {hF : AH} (x0 : Nat) (x1 : Int32) (x2 : Int32) (h : AH) (e : f_X3_ends x0 x1 x2 h = some (r, hF)) : V (G_X3_ends D l as h0 hF (oI r)) h 0 [(0, .ref x0), (1, .int x1), (2, .int x2)] [] := by
  unfold f_X3_ends at e
  refine v_iload_n (pc' := 1) hc_X3_ends dX3_ends_0 rfl rfl 1 rfl ?_
  refine v_if_ne (pt := 13) (pf := 4) hc_X3_ends dX3_ends_1 rfl rfl e (fun _ e => ?_) (fun _ e => ?_)
  · refine v_aload_n (pc' := 5) hc_X3_ends dX3_ends_4 rfl rfl 0 rfl ?_
    refine v_aload_n (pc' := 6) hc_X3_ends dX3_ends_5 rfl rfl 0 rfl ?_
    refine v_gfI (pc' := 9) hc_X3_ends ho_X3_ends KX3 19 (Nat.le_of_ble_eq_true rfl) q2261 (Or.inl rfl) dX3_ends_6 rfl e (fun v1 _ e => ?_)
    obtain ⟨c2, e⟩ := gd_of e
    obtain ⟨r3, h4, e5, e⟩ := bd2_of e
    refine k_V (pc' := 12) (ci := 2) (n := 1) hc_X3_ends ho_X3_ends rfl c2 (w_X3_changed D l hl x0 v1 h e5) (wA_l q2347) q2349 (wA_l qs29) q85 q2350 hy_123 ⟨Nat.le_of_ble_eq_true rfl, Nat.le_of_ble_eq_true rfl⟩ rfl rfl (Nat.le_of_ble_eq_true rfl) dX3_ends_9 rfl (kS ?_) kN
    obtain ⟨rfl, rfl⟩ := ret_of e
    exact v_iret hc_X3_ends rfl dX3_ends_12 rfl rfl
  · refine v_aload_n (pc' := 14) hc_X3_ends dX3_ends_13 rfl rfl 0 rfl ?_
    refine v_iload_n (pc' := 15) hc_X3_ends dX3_ends_14 rfl rfl 1 rfl ?_
    refine v_pf (pc' := 18) hc_X3_ends ho_X3_ends KX3 14 (Nat.le_of_ble_eq_true rfl) q2256 (Or.inl rfl) rfl dX3_ends_15 rfl rfl rfl e (fun h6 _ e => ?_)
    refine v_aload_n (pc' := 19) hc_X3_ends dX3_ends_18 rfl rfl 0 rfl ?_
    refine v_aload_n (pc' := 20) hc_X3_ends dX3_ends_19 rfl rfl 0 rfl ?_
    refine v_gfI (pc' := 23) hc_X3_ends ho_X3_ends KX3 18 (Nat.le_of_ble_eq_true rfl) q2260 (Or.inl rfl) dX3_ends_20 rfl e (fun v7 _ e => ?_)
    refine v_pf (pc' := 26) hc_X3_ends ho_X3_ends KX3 15 (Nat.le_of_ble_eq_true rfl) q2257 (Or.inl rfl) rfl dX3_ends_23 rfl rfl rfl e (fun h8 _ e => ?_)
    refine v_aload_n (pc' := 27) hc_X3_ends dX3_ends_26 rfl rfl 0 rfl ?_
    refine v_iconst (pc' := 28) (v := 0) hc_X3_ends dX3_ends_27 rfl rfl ?_
    refine v_pf (pc' := 31) hc_X3_ends ho_X3_ends KX3 16 (Nat.le_of_ble_eq_true rfl) q2258 (Or.inl rfl) rfl dX3_ends_28 rfl rfl rfl e (fun h9 _ e => ?_)
    refine v_aload_n (pc' := 32) hc_X3_ends dX3_ends_31 rfl rfl 0 rfl ?_
    refine v_iload_n (pc' := 33) hc_X3_ends dX3_ends_32 rfl rfl 2 rfl ?_
    obtain ⟨c10, e⟩ := gd_of e
    obtain ⟨r11, h12, e13, e⟩ := bd2_of e
    refine k_V (pc' := 36) (ci := 2) (n := 1) hc_X3_ends ho_X3_ends rfl c10 (w_X3_fails D l hl x0 x2 h9 e13) (wA_l q2351) q2353 (wA_l qs30) q85 q2354 hy_119 ⟨Nat.le_of_ble_eq_true rfl, Nat.le_of_ble_eq_true rfl⟩ rfl rfl (Nat.le_of_ble_eq_true rfl) dX3_ends_33 rfl (kS ?_) kN
    obtain ⟨rfl, rfl⟩ := ret_of e
    exact v_iret hc_X3_ends rfl dX3_ends_36 rfl rfl
theorem w_X3_ends (D : va_G) (l : Launch) (hl : l.stackTraces = false) (x0 : Nat) (x1 : Int32) (x2 : Int32) (h : AH) {r : Int32} {hF : AH} (e : f_X3_ends x0 x1 x2 h = some (r, hF)) : MetV D l yX3_ends (Cond.code yX3_ends cX3_ends 3 (Option.some .int)) 2 70 [.ref x0, .int x1, .int x2] h hF (oI r) :=
  met_ofF (by decide +kernel) hl (Nat.le_of_ble_eq_true rfl) rfl (v_X3_ends D l hl [.ref x0, .int x1, .int x2] h x0 x1 x2 h e)
/-! BlockPapersModel.block(IZ)I  -/
abbrev G_X3_block (D : va_G) (l : Launch) (as : List Value) (h0 hF : AH) (o : Out) : CT := (D, l, (yX3_block.cls, yX3_block, cX3_block, 3, (Option.some .int), 3, 93, []), as, h0, hF, o)
theorem hc_X3_block {D : va_G} {l : Launch} {as : List Value} {h0 hF : AH} {o : Out} : gC (G_X3_block D l as h0 hF o) = cX3_block := rfl
theorem ho_X3_block {D : va_G} {l : Launch} {as : List Value} {h0 hF : AH} {o : Out} : gO (G_X3_block D l as h0 hF o) = "BlockPapersModel" := rfl
theorem hp_X3_block {D : va_G} {l : Launch} {as : List Value} {h0 hF : AH} {o : Out} (pc : Nat) : ∀ z ∈ tableOf (gHd (G_X3_block D l as h0 hF o)), covers z pc = false := hpN
def f_X3_block (x0 : Nat) (x1 : Int32) (x2 : Int32) (h : AH) : Option (Int32 × AH) :=
  bd (stF h 2 x0 0 (.int (0 : Int32))) fun h1 =>
  gd (isC h1 2 x0) <|
  bd2 (f_X3_remembers x0 h1) fun r3 h4 =>
  bd2 (f_X3_in x1 (10 : Int32) (90 : Int32) h4) fun r6 h7 =>
  if r6 = 0 then (
    gd (isC h7 2 x0) <|
    bd2 (f_X3_fails x0 (1 : Int32) h7) fun r10 h11 =>
    some (r10, h11)
  ) else (
    gd (isC h7 2 x0) <|
    bd2 (f_X3_blocks x0 x1 x2 h7) fun r14 h15 =>
    gd (isC h15 2 x0) <|
    bd2 (f_X3_ends x0 r14 (2 : Int32) h15) fun r18 h19 =>
    some (r18, h19)
  )
theorem v_X3_block (D : va_G) (l : Launch) (hl : l.stackTraces = false) (as : List Value) (h0 : AH) {r : Int32} {hF : AH} (x0 : Nat) (x1 : Int32) (x2 : Int32) (h : AH) (e : f_X3_block x0 x1 x2 h = some (r, hF)) : V (G_X3_block D l as h0 hF (oI r)) h 0 [(0, .ref x0), (1, .int x1), (2, .int x2)] [] := by
  unfold f_X3_block at e
  refine v_aload_n (pc' := 1) hc_X3_block dX3_block_0 rfl rfl 0 rfl ?_
  refine v_iconst (pc' := 2) (v := 0) hc_X3_block dX3_block_1 rfl rfl ?_
  refine v_pf (pc' := 5) hc_X3_block ho_X3_block KX3 0 (Nat.le_of_ble_eq_true rfl) q2242 (Or.inl rfl) rfl dX3_block_2 rfl rfl rfl e (fun h1 _ e => ?_)
  refine v_aload_n (pc' := 6) hc_X3_block dX3_block_5 rfl rfl 0 rfl ?_
  obtain ⟨c2, e⟩ := gd_of e
  obtain ⟨r3, h4, e5, e⟩ := bd2_of e
  refine k_V (pc' := 9) (ci := 2) (n := 0) hc_X3_block ho_X3_block rfl c2 (w_X3_remembers D l hl x0 h1 e5) (wA_l q2324) q2326 (wA_l qs24) q85 q2327 hy_117 ⟨Nat.le_of_ble_eq_true rfl, Nat.le_of_ble_eq_true rfl⟩ rfl rfl (Nat.le_of_ble_eq_true rfl) dX3_block_6 rfl (kU ?_) kN
  refine v_iload_n (pc' := 10) hc_X3_block dX3_block_9 rfl rfl 1 rfl ?_
  refine v_bipush (pc' := 12) (v := 10) hc_X3_block dX3_block_10 rfl rfl ?_
  refine v_bipush (pc' := 14) (v := 90) hc_X3_block dX3_block_12 rfl rfl ?_
  obtain ⟨r6, h7, e8, e⟩ := bd2_of e
  refine k_S (pc' := 17) (n := 3) hc_X3_block ho_X3_block (w_X3_in D l hl x1 (10 : Int32) (90 : Int32) h4 e8) (wA_l q2328) q2329 q85 q2330 hy_118 ⟨Nat.le_of_ble_eq_true rfl, Nat.le_of_ble_eq_true rfl⟩ rfl rfl (Nat.le_of_ble_eq_true rfl) dX3_block_14 rfl (kS ?_) kN
  refine v_if_eq (pt := 34) (pf := 20) hc_X3_block dX3_block_17 rfl rfl e (fun _ e => ?_) (fun _ e => ?_)
  · refine v_aload_n (pc' := 35) hc_X3_block dX3_block_34 rfl rfl 0 rfl ?_
    refine v_iconst (pc' := 36) (v := 1) hc_X3_block dX3_block_35 rfl rfl ?_
    obtain ⟨c9, e⟩ := gd_of e
    obtain ⟨r10, h11, e12, e⟩ := bd2_of e
    refine k_V (pc' := 39) (ci := 2) (n := 1) hc_X3_block ho_X3_block rfl c9 (w_X3_fails D l hl x0 (1 : Int32) h7 e12) (wA_l q2351) q2353 (wA_l qs30) q85 q2354 hy_119 ⟨Nat.le_of_ble_eq_true rfl, Nat.le_of_ble_eq_true rfl⟩ rfl rfl (Nat.le_of_ble_eq_true rfl) dX3_block_36 rfl (kS ?_) kN
    obtain ⟨rfl, rfl⟩ := ret_of e
    exact v_iret hc_X3_block rfl dX3_block_39 rfl rfl
  · refine v_aload_n (pc' := 21) hc_X3_block dX3_block_20 rfl rfl 0 rfl ?_
    refine v_aload_n (pc' := 22) hc_X3_block dX3_block_21 rfl rfl 0 rfl ?_
    refine v_iload_n (pc' := 23) hc_X3_block dX3_block_22 rfl rfl 1 rfl ?_
    refine v_iload_n (pc' := 24) hc_X3_block dX3_block_23 rfl rfl 2 rfl ?_
    obtain ⟨c13, e⟩ := gd_of e
    obtain ⟨r14, h15, e16, e⟩ := bd2_of e
    refine k_V (pc' := 27) (ci := 2) (n := 2) hc_X3_block ho_X3_block rfl c13 (w_X3_blocks D l hl x0 x1 x2 h7 e16) (wA_l q2331) q2333 (wA_l qs25) q85 q2334 hy_122 ⟨Nat.le_of_ble_eq_true rfl, Nat.le_of_ble_eq_true rfl⟩ rfl rfl (Nat.le_of_ble_eq_true rfl) dX3_block_24 rfl (kS ?_) kN
    refine v_iconst (pc' := 28) (v := 2) hc_X3_block dX3_block_27 rfl rfl ?_
    obtain ⟨c17, e⟩ := gd_of e
    obtain ⟨r18, h19, e20, e⟩ := bd2_of e
    refine k_V (pc' := 31) (ci := 2) (n := 2) hc_X3_block ho_X3_block rfl c17 (w_X3_ends D l hl x0 r14 (2 : Int32) h15 e20) (wA_l q2343) q2345 (wA_l qs28) q85 q2346 hy_124 ⟨Nat.le_of_ble_eq_true rfl, Nat.le_of_ble_eq_true rfl⟩ rfl rfl (Nat.le_of_ble_eq_true rfl) dX3_block_28 rfl (kS ?_) kN
    refine v_goto (pt := 39) hc_X3_block dX3_block_31 rfl ?_
    obtain ⟨rfl, rfl⟩ := ret_of e
    exact v_iret hc_X3_block rfl dX3_block_39 rfl rfl
theorem w_X3_block (D : va_G) (l : Launch) (hl : l.stackTraces = false) (x0 : Nat) (x1 : Int32) (x2 : Int32) (h : AH) {r : Int32} {hF : AH} (e : f_X3_block x0 x1 x2 h = some (r, hF)) : MetV D l yX3_block (Cond.code yX3_block cX3_block 3 (Option.some .int)) 3 93 [.ref x0, .int x1, .int x2] h hF (oI r) :=
  met_ofF (by decide +kernel) hl (Nat.le_of_ble_eq_true rfl) rfl (v_X3_block D l hl [.ref x0, .int x1, .int x2] h x0 x1 x2 h e)
/-! BlockPapersModel.thrown()I  -/
abbrev G_X3_thrown (D : va_G) (l : Launch) (as : List Value) (h0 hF : AH) (o : Out) : CT := (D, l, (yX3_thrown.cls, yX3_thrown, cX3_thrown, 1, (Option.some .int), 1, 48, []), as, h0, hF, o)
theorem hc_X3_thrown {D : va_G} {l : Launch} {as : List Value} {h0 hF : AH} {o : Out} : gC (G_X3_thrown D l as h0 hF o) = cX3_thrown := rfl
theorem ho_X3_thrown {D : va_G} {l : Launch} {as : List Value} {h0 hF : AH} {o : Out} : gO (G_X3_thrown D l as h0 hF o) = "BlockPapersModel" := rfl
theorem hp_X3_thrown {D : va_G} {l : Launch} {as : List Value} {h0 hF : AH} {o : Out} (pc : Nat) : ∀ z ∈ tableOf (gHd (G_X3_thrown D l as h0 hF o)), covers z pc = false := hpN
def f_X3_thrown (x0 : Nat) (h : AH) : Option (Int32 × AH) :=
  bd (gtI h 2 x0 0) fun v1 =>
  some (v1, h)
theorem v_X3_thrown (D : va_G) (l : Launch) (hl : l.stackTraces = false) (as : List Value) (h0 : AH) {r : Int32} {hF : AH} (x0 : Nat) (h : AH) (e : f_X3_thrown x0 h = some (r, hF)) : V (G_X3_thrown D l as h0 hF (oI r)) h 0 [(0, .ref x0)] [] := by
  unfold f_X3_thrown at e
  refine v_aload_n (pc' := 1) hc_X3_thrown dX3_thrown_0 rfl rfl 0 rfl ?_
  refine v_gfI (pc' := 4) hc_X3_thrown ho_X3_thrown KX3 0 (Nat.le_of_ble_eq_true rfl) q2242 (Or.inl rfl) dX3_thrown_1 rfl e (fun v1 _ e => ?_)
  obtain ⟨rfl, rfl⟩ := ret_of e
  exact v_iret hc_X3_thrown rfl dX3_thrown_4 rfl rfl
theorem w_X3_thrown (D : va_G) (l : Launch) (hl : l.stackTraces = false) (x0 : Nat) (h : AH) {r : Int32} {hF : AH} (e : f_X3_thrown x0 h = some (r, hF)) : MetV D l yX3_thrown (Cond.code yX3_thrown cX3_thrown 1 (Option.some .int)) 1 48 [.ref x0] h hF (oI r) :=
  met_ofF (by decide +kernel) hl (Nat.le_of_ble_eq_true rfl) rfl (v_X3_thrown D l hl [.ref x0] h x0 h e)
/-! BlockPapersModel.isBlock(I)Z  -/
abbrev G_X3_isBlock (D : va_G) (l : Launch) (as : List Value) (h0 hF : AH) (o : Out) : CT := (D, l, (yX3_isBlock.cls, yX3_isBlock, cX3_isBlock, 2, (Option.some .boolean), 2, 70, []), as, h0, hF, o)
theorem hc_X3_isBlock {D : va_G} {l : Launch} {as : List Value} {h0 hF : AH} {o : Out} : gC (G_X3_isBlock D l as h0 hF o) = cX3_isBlock := rfl
theorem ho_X3_isBlock {D : va_G} {l : Launch} {as : List Value} {h0 hF : AH} {o : Out} : gO (G_X3_isBlock D l as h0 hF o) = "BlockPapersModel" := rfl
theorem hp_X3_isBlock {D : va_G} {l : Launch} {as : List Value} {h0 hF : AH} {o : Out} (pc : Nat) : ∀ z ∈ tableOf (gHd (G_X3_isBlock D l as h0 hF o)), covers z pc = false := hpN
def f_X3_isBlock (x0 : Nat) (x1 : Int32) (h : AH) : Option (Int32 × AH) :=
  bd (gtR h 2 x0 1) fun v1 =>
  bd (ldI h 0 v1 (0 : Int32)) fun v2 =>
  bd2 (f_X3_in x1 (0 : Int32) (v2 - (1 : Int32)) h) fun r3 h4 =>
  gd (nrw .boolean r3) <|
  some (r3, h4)
theorem v_X3_isBlock (D : va_G) (l : Launch) (hl : l.stackTraces = false) (as : List Value) (h0 : AH) {r : Int32} {hF : AH} (x0 : Nat) (x1 : Int32) (h : AH) (e : f_X3_isBlock x0 x1 h = some (r, hF)) : V (G_X3_isBlock D l as h0 hF (oI r)) h 0 [(0, .ref x0), (1, .int x1)] [] := by
  unfold f_X3_isBlock at e
  refine v_iload_n (pc' := 1) hc_X3_isBlock dX3_isBlock_0 rfl rfl 1 rfl ?_
  refine v_iconst (pc' := 2) (v := 0) hc_X3_isBlock dX3_isBlock_1 rfl rfl ?_
  refine v_aload_n (pc' := 3) hc_X3_isBlock dX3_isBlock_2 rfl rfl 0 rfl ?_
  refine v_gfR (pc' := 6) hc_X3_isBlock ho_X3_isBlock KX3 1 (Nat.le_of_ble_eq_true rfl) q2243 (Or.inl rfl) dX3_isBlock_3 rfl e (fun v1 _ e => ?_)
  refine v_iconst (pc' := 7) (v := 0) hc_X3_isBlock dX3_isBlock_6 rfl rfl ?_
  refine v_iald (pc' := 8) hc_X3_isBlock dX3_isBlock_7 rfl e (fun v2 _ e => ?_)
  refine v_iconst (pc' := 9) (v := 1) hc_X3_isBlock dX3_isBlock_8 rfl rfl ?_
  refine v_isub (pc' := 10) hc_X3_isBlock dX3_isBlock_9 rfl ?_
  obtain ⟨r3, h4, e5, e⟩ := bd2_of e
  refine k_S (pc' := 13) (n := 3) hc_X3_isBlock ho_X3_isBlock (w_X3_in D l hl x1 (0 : Int32) (v2 - (1 : Int32)) h e5) (wA_l q2328) q2329 q85 q2330 hy_118 ⟨Nat.le_of_ble_eq_true rfl, Nat.le_of_ble_eq_true rfl⟩ rfl rfl (Nat.le_of_ble_eq_true rfl) dX3_isBlock_10 rfl (kS ?_) kN
  obtain ⟨c6, e⟩ := gd_of e
  obtain ⟨rfl, rfl⟩ := ret_of e
  exact v_zret hc_X3_isBlock rfl (nrw_of c6) dX3_isBlock_13 rfl rfl
theorem w_X3_isBlock (D : va_G) (l : Launch) (hl : l.stackTraces = false) (x0 : Nat) (x1 : Int32) (h : AH) {r : Int32} {hF : AH} (e : f_X3_isBlock x0 x1 h = some (r, hF)) : MetV D l yX3_isBlock (Cond.code yX3_isBlock cX3_isBlock 2 (Option.some .boolean)) 2 70 [.ref x0, .int x1] h hF (oI r) :=
  met_ofF (by decide +kernel) hl (Nat.le_of_ble_eq_true rfl) rfl (v_X3_isBlock D l hl [.ref x0, .int x1] h x0 x1 h e)
/-! BlockPapersModel.blockRow(II)I  -/
abbrev G_X3_blockRow (D : va_G) (l : Launch) (as : List Value) (h0 hF : AH) (o : Out) : CT := (D, l, (yX3_blockRow.cls, yX3_blockRow, cX3_blockRow, 3, (Option.some .int), 1, 48, []), as, h0, hF, o)
theorem hc_X3_blockRow {D : va_G} {l : Launch} {as : List Value} {h0 hF : AH} {o : Out} : gC (G_X3_blockRow D l as h0 hF o) = cX3_blockRow := rfl
theorem ho_X3_blockRow {D : va_G} {l : Launch} {as : List Value} {h0 hF : AH} {o : Out} : gO (G_X3_blockRow D l as h0 hF o) = "BlockPapersModel" := rfl
theorem hp_X3_blockRow {D : va_G} {l : Launch} {as : List Value} {h0 hF : AH} {o : Out} (pc : Nat) : ∀ z ∈ tableOf (gHd (G_X3_blockRow D l as h0 hF o)), covers z pc = false := hpN
def f_X3_blockRow (x0 : Nat) (x1 : Int32) (x2 : Int32) (h : AH) : Option (Int32 × AH) :=
  bd (gtR h 2 x0 1) fun v1 =>
  bd (ldI h 0 v1 (((7 : Int32) + ((4 : Int32) * x1)) + x2)) fun v2 =>
  some (v2, h)
theorem v_X3_blockRow (D : va_G) (l : Launch) (hl : l.stackTraces = false) (as : List Value) (h0 : AH) {r : Int32} {hF : AH} (x0 : Nat) (x1 : Int32) (x2 : Int32) (h : AH) (e : f_X3_blockRow x0 x1 x2 h = some (r, hF)) : V (G_X3_blockRow D l as h0 hF (oI r)) h 0 [(0, .ref x0), (1, .int x1), (2, .int x2)] [] := by
  unfold f_X3_blockRow at e
  refine v_aload_n (pc' := 1) hc_X3_blockRow dX3_blockRow_0 rfl rfl 0 rfl ?_
  refine v_gfR (pc' := 4) hc_X3_blockRow ho_X3_blockRow KX3 1 (Nat.le_of_ble_eq_true rfl) q2243 (Or.inl rfl) dX3_blockRow_1 rfl e (fun v1 _ e => ?_)
  refine v_bipush (pc' := 6) (v := 7) hc_X3_blockRow dX3_blockRow_4 rfl rfl ?_
  refine v_iconst (pc' := 7) (v := 4) hc_X3_blockRow dX3_blockRow_6 rfl rfl ?_
  refine v_iload_n (pc' := 8) hc_X3_blockRow dX3_blockRow_7 rfl rfl 1 rfl ?_
  refine v_imul (pc' := 9) hc_X3_blockRow dX3_blockRow_8 rfl ?_
  refine v_iadd (pc' := 10) hc_X3_blockRow dX3_blockRow_9 rfl ?_
  refine v_iload_n (pc' := 11) hc_X3_blockRow dX3_blockRow_10 rfl rfl 2 rfl ?_
  refine v_iadd (pc' := 12) hc_X3_blockRow dX3_blockRow_11 rfl ?_
  refine v_iald (pc' := 13) hc_X3_blockRow dX3_blockRow_12 rfl e (fun v2 _ e => ?_)
  obtain ⟨rfl, rfl⟩ := ret_of e
  exact v_iret hc_X3_blockRow rfl dX3_blockRow_13 rfl rfl
theorem w_X3_blockRow (D : va_G) (l : Launch) (hl : l.stackTraces = false) (x0 : Nat) (x1 : Int32) (x2 : Int32) (h : AH) {r : Int32} {hF : AH} (e : f_X3_blockRow x0 x1 x2 h = some (r, hF)) : MetV D l yX3_blockRow (Cond.code yX3_blockRow cX3_blockRow 3 (Option.some .int)) 1 48 [.ref x0, .int x1, .int x2] h hF (oI r) :=
  met_ofF (by decide +kernel) hl (Nat.le_of_ble_eq_true rfl) rfl (v_X3_blockRow D l hl [.ref x0, .int x1, .int x2] h x0 x1 x2 h e)
/-! BlockPapersModel.blockOf(II)I  -/
abbrev G_X3_blockOf (D : va_G) (l : Launch) (as : List Value) (h0 hF : AH) (o : Out) : CT := (D, l, (yX3_blockOf.cls, yX3_blockOf, cX3_blockOf, 3, (Option.some .int), 3, 91, []), as, h0, hF, o)
theorem hc_X3_blockOf {D : va_G} {l : Launch} {as : List Value} {h0 hF : AH} {o : Out} : gC (G_X3_blockOf D l as h0 hF o) = cX3_blockOf := rfl
theorem ho_X3_blockOf {D : va_G} {l : Launch} {as : List Value} {h0 hF : AH} {o : Out} : gO (G_X3_blockOf D l as h0 hF o) = "BlockPapersModel" := rfl
theorem hp_X3_blockOf {D : va_G} {l : Launch} {as : List Value} {h0 hF : AH} {o : Out} (pc : Nat) : ∀ z ∈ tableOf (gHd (G_X3_blockOf D l as h0 hF o)), covers z pc = false := hpN
def f_X3_blockOf (x0 : Nat) (x1 : Int32) (x2 : Int32) (h : AH) : Option (Int32 × AH) :=
  bd (stF h 2 x0 0 (.int (0 : Int32))) fun h1 =>
  gd (isC h1 2 x0) <|
  bd2 (f_X3_isBlock x0 x1 h1) fun r3 h4 =>
  if r3 = 0 then (
    gd (isC h4 2 x0) <|
    bd2 (f_X3_fails x0 (1 : Int32) h4) fun r7 h8 =>
    some (r7, h8)
  ) else (
    bd2 (f_X3_in x2 (0 : Int32) (3 : Int32) h4) fun r10 h11 =>
    if r10 = 0 then (
      gd (isC h11 2 x0) <|
      bd2 (f_X3_fails x0 (2 : Int32) h11) fun r14 h15 =>
      some (r14, h15)
    ) else (
      gd (isC h11 2 x0) <|
      bd2 (f_X3_blockRow x0 x1 x2 h11) fun r18 h19 =>
      some (r18, h19)
    )
  )
theorem v_X3_blockOf (D : va_G) (l : Launch) (hl : l.stackTraces = false) (as : List Value) (h0 : AH) {r : Int32} {hF : AH} (x0 : Nat) (x1 : Int32) (x2 : Int32) (h : AH) (e : f_X3_blockOf x0 x1 x2 h = some (r, hF)) : V (G_X3_blockOf D l as h0 hF (oI r)) h 0 [(0, .ref x0), (1, .int x1), (2, .int x2)] [] := by
  unfold f_X3_blockOf at e
  refine v_aload_n (pc' := 1) hc_X3_blockOf dX3_blockOf_0 rfl rfl 0 rfl ?_
  refine v_iconst (pc' := 2) (v := 0) hc_X3_blockOf dX3_blockOf_1 rfl rfl ?_
  refine v_pf (pc' := 5) hc_X3_blockOf ho_X3_blockOf KX3 0 (Nat.le_of_ble_eq_true rfl) q2242 (Or.inl rfl) rfl dX3_blockOf_2 rfl rfl rfl e (fun h1 _ e => ?_)
  refine v_aload_n (pc' := 6) hc_X3_blockOf dX3_blockOf_5 rfl rfl 0 rfl ?_
  refine v_iload_n (pc' := 7) hc_X3_blockOf dX3_blockOf_6 rfl rfl 1 rfl ?_
  obtain ⟨c2, e⟩ := gd_of e
  obtain ⟨r3, h4, e5, e⟩ := bd2_of e
  refine k_V (pc' := 10) (ci := 2) (n := 1) hc_X3_blockOf ho_X3_blockOf rfl c2 (w_X3_isBlock D l hl x0 x1 h1 e5) (wA_l q2359) q2361 (wA_l qs31) q85 q2362 hy_130 ⟨Nat.le_of_ble_eq_true rfl, Nat.le_of_ble_eq_true rfl⟩ rfl rfl (Nat.le_of_ble_eq_true rfl) dX3_blockOf_7 rfl (kS ?_) kN
  refine v_if_ne (pt := 19) (pf := 13) hc_X3_blockOf dX3_blockOf_10 rfl rfl e (fun _ e => ?_) (fun _ e => ?_)
  · refine v_aload_n (pc' := 14) hc_X3_blockOf dX3_blockOf_13 rfl rfl 0 rfl ?_
    refine v_iconst (pc' := 15) (v := 1) hc_X3_blockOf dX3_blockOf_14 rfl rfl ?_
    obtain ⟨c6, e⟩ := gd_of e
    obtain ⟨r7, h8, e9, e⟩ := bd2_of e
    refine k_V (pc' := 18) (ci := 2) (n := 1) hc_X3_blockOf ho_X3_blockOf rfl c6 (w_X3_fails D l hl x0 (1 : Int32) h4 e9) (wA_l q2351) q2353 (wA_l qs30) q85 q2354 hy_119 ⟨Nat.le_of_ble_eq_true rfl, Nat.le_of_ble_eq_true rfl⟩ rfl rfl (Nat.le_of_ble_eq_true rfl) dX3_blockOf_15 rfl (kS ?_) kN
    obtain ⟨rfl, rfl⟩ := ret_of e
    exact v_iret hc_X3_blockOf rfl dX3_blockOf_18 rfl rfl
  · refine v_iload_n (pc' := 20) hc_X3_blockOf dX3_blockOf_19 rfl rfl 2 rfl ?_
    refine v_iconst (pc' := 21) (v := 0) hc_X3_blockOf dX3_blockOf_20 rfl rfl ?_
    refine v_iconst (pc' := 22) (v := 3) hc_X3_blockOf dX3_blockOf_21 rfl rfl ?_
    obtain ⟨r10, h11, e12, e⟩ := bd2_of e
    refine k_S (pc' := 25) (n := 3) hc_X3_blockOf ho_X3_blockOf (w_X3_in D l hl x2 (0 : Int32) (3 : Int32) h4 e12) (wA_l q2328) q2329 q85 q2330 hy_118 ⟨Nat.le_of_ble_eq_true rfl, Nat.le_of_ble_eq_true rfl⟩ rfl rfl (Nat.le_of_ble_eq_true rfl) dX3_blockOf_22 rfl (kS ?_) kN
    refine v_if_eq (pt := 37) (pf := 28) hc_X3_blockOf dX3_blockOf_25 rfl rfl e (fun _ e => ?_) (fun _ e => ?_)
    · refine v_aload_n (pc' := 38) hc_X3_blockOf dX3_blockOf_37 rfl rfl 0 rfl ?_
      refine v_iconst (pc' := 39) (v := 2) hc_X3_blockOf dX3_blockOf_38 rfl rfl ?_
      obtain ⟨c13, e⟩ := gd_of e
      obtain ⟨r14, h15, e16, e⟩ := bd2_of e
      refine k_V (pc' := 42) (ci := 2) (n := 1) hc_X3_blockOf ho_X3_blockOf rfl c13 (w_X3_fails D l hl x0 (2 : Int32) h11 e16) (wA_l q2351) q2353 (wA_l qs30) q85 q2354 hy_119 ⟨Nat.le_of_ble_eq_true rfl, Nat.le_of_ble_eq_true rfl⟩ rfl rfl (Nat.le_of_ble_eq_true rfl) dX3_blockOf_39 rfl (kS ?_) kN
      obtain ⟨rfl, rfl⟩ := ret_of e
      exact v_iret hc_X3_blockOf rfl dX3_blockOf_42 rfl rfl
    · refine v_aload_n (pc' := 29) hc_X3_blockOf dX3_blockOf_28 rfl rfl 0 rfl ?_
      refine v_iload_n (pc' := 30) hc_X3_blockOf dX3_blockOf_29 rfl rfl 1 rfl ?_
      refine v_iload_n (pc' := 31) hc_X3_blockOf dX3_blockOf_30 rfl rfl 2 rfl ?_
      obtain ⟨c17, e⟩ := gd_of e
      obtain ⟨r18, h19, e20, e⟩ := bd2_of e
      refine k_V (pc' := 34) (ci := 2) (n := 2) hc_X3_blockOf ho_X3_blockOf rfl c17 (w_X3_blockRow D l hl x0 x1 x2 h11 e20) (wA_l q2363) q2365 (wA_l qs32) q85 q2366 hy_131 ⟨Nat.le_of_ble_eq_true rfl, Nat.le_of_ble_eq_true rfl⟩ rfl rfl (Nat.le_of_ble_eq_true rfl) dX3_blockOf_31 rfl (kS ?_) kN
      refine v_goto (pt := 42) hc_X3_blockOf dX3_blockOf_34 rfl ?_
      obtain ⟨rfl, rfl⟩ := ret_of e
      exact v_iret hc_X3_blockOf rfl dX3_blockOf_42 rfl rfl
theorem w_X3_blockOf (D : va_G) (l : Launch) (hl : l.stackTraces = false) (x0 : Nat) (x1 : Int32) (x2 : Int32) (h : AH) {r : Int32} {hF : AH} (e : f_X3_blockOf x0 x1 x2 h = some (r, hF)) : MetV D l yX3_blockOf (Cond.code yX3_blockOf cX3_blockOf 3 (Option.some .int)) 3 91 [.ref x0, .int x1, .int x2] h hF (oI r) :=
  met_ofF (by decide +kernel) hl (Nat.le_of_ble_eq_true rfl) rfl (v_X3_blockOf D l hl [.ref x0, .int x1, .int x2] h x0 x1 x2 h e)
/-! BlockPapersModel.carves(I)I  -/
abbrev G_X3_carves (D : va_G) (l : Launch) (as : List Value) (h0 hF : AH) (o : Out) : CT := (D, l, (yX3_carves.cls, yX3_carves, cX3_carves, 3, (Option.some .int), 2, 70, []), as, h0, hF, o)
theorem hc_X3_carves {D : va_G} {l : Launch} {as : List Value} {h0 hF : AH} {o : Out} : gC (G_X3_carves D l as h0 hF o) = cX3_carves := rfl
theorem ho_X3_carves {D : va_G} {l : Launch} {as : List Value} {h0 hF : AH} {o : Out} : gO (G_X3_carves D l as h0 hF o) = "BlockPapersModel" := rfl
theorem hp_X3_carves {D : va_G} {l : Launch} {as : List Value} {h0 hF : AH} {o : Out} (pc : Nat) : ∀ z ∈ tableOf (gHd (G_X3_carves D l as h0 hF o)), covers z pc = false := hpN
def f_X3_carves (x0 : Nat) (x1 : Int32) (h : AH) : Option (Int32 × AH) :=
  gd (isC h 2 x0) <|
  bd2 (f_X3_blockRow x0 x1 (2 : Int32) h) fun r2 h3 =>
  bd (gtR h3 2 x0 1) fun v5 =>
  bd (stI h3 v5 (((7 : Int32) + ((4 : Int32) * x1)) + (2 : Int32)) (0 : Int32)) fun h6 =>
  gd (isC h6 2 x0) <|
  bd2 (f_X3_done x0 r2 h6) fun r8 h9 =>
  some (r8, h9)
theorem v_X3_carves (D : va_G) (l : Launch) (hl : l.stackTraces = false) (as : List Value) (h0 : AH) {r : Int32} {hF : AH} (x0 : Nat) (x1 : Int32) (h : AH) (e : f_X3_carves x0 x1 h = some (r, hF)) : V (G_X3_carves D l as h0 hF (oI r)) h 0 [(0, .ref x0), (1, .int x1)] [] := by
  unfold f_X3_carves at e
  refine v_aload_n (pc' := 1) hc_X3_carves dX3_carves_0 rfl rfl 0 rfl ?_
  refine v_iload_n (pc' := 2) hc_X3_carves dX3_carves_1 rfl rfl 1 rfl ?_
  refine v_iconst (pc' := 3) (v := 2) hc_X3_carves dX3_carves_2 rfl rfl ?_
  obtain ⟨c1, e⟩ := gd_of e
  obtain ⟨r2, h3, e4, e⟩ := bd2_of e
  refine k_V (pc' := 6) (ci := 2) (n := 2) hc_X3_carves ho_X3_carves rfl c1 (w_X3_blockRow D l hl x0 x1 (2 : Int32) h e4) (wA_l q2363) q2365 (wA_l qs32) q85 q2366 hy_131 ⟨Nat.le_of_ble_eq_true rfl, Nat.le_of_ble_eq_true rfl⟩ rfl rfl (Nat.le_of_ble_eq_true rfl) dX3_carves_3 rfl (kS ?_) kN
  refine v_istore_n (pc' := 7) (lv' := [(2, .int r2), (0, .ref x0), (1, .int x1)]) hc_X3_carves dX3_carves_6 rfl rfl (Nat.le_of_ble_eq_true rfl) rfl ?_
  refine v_aload_n (pc' := 8) hc_X3_carves dX3_carves_7 rfl rfl 1 rfl ?_
  refine v_gfR (pc' := 11) hc_X3_carves ho_X3_carves KX3 1 (Nat.le_of_ble_eq_true rfl) q2243 (Or.inl rfl) dX3_carves_8 rfl e (fun v5 _ e => ?_)
  refine v_bipush (pc' := 13) (v := 7) hc_X3_carves dX3_carves_11 rfl rfl ?_
  refine v_iconst (pc' := 14) (v := 4) hc_X3_carves dX3_carves_13 rfl rfl ?_
  refine v_iload_n (pc' := 15) hc_X3_carves dX3_carves_14 rfl rfl 2 rfl ?_
  refine v_imul (pc' := 16) hc_X3_carves dX3_carves_15 rfl ?_
  refine v_iadd (pc' := 17) hc_X3_carves dX3_carves_16 rfl ?_
  refine v_iconst (pc' := 18) (v := 2) hc_X3_carves dX3_carves_17 rfl rfl ?_
  refine v_iadd (pc' := 19) hc_X3_carves dX3_carves_18 rfl ?_
  refine v_iconst (pc' := 20) (v := 0) hc_X3_carves dX3_carves_19 rfl rfl ?_
  refine v_iast (pc' := 21) hc_X3_carves dX3_carves_20 rfl e (fun h6 _ e => ?_)
  refine v_aload_n (pc' := 22) hc_X3_carves dX3_carves_21 rfl rfl 1 rfl ?_
  refine v_iload_n (pc' := 23) hc_X3_carves dX3_carves_22 rfl rfl 0 rfl ?_
  obtain ⟨c7, e⟩ := gd_of e
  obtain ⟨r8, h9, e10, e⟩ := bd2_of e
  refine k_V (pc' := 26) (ci := 2) (n := 1) hc_X3_carves ho_X3_carves rfl c7 (w_X3_done D l hl x0 r2 h6 e10) (wA_l q2339) q2341 (wA_l qs27) q85 q2342 hy_121 ⟨Nat.le_of_ble_eq_true rfl, Nat.le_of_ble_eq_true rfl⟩ rfl rfl (Nat.le_of_ble_eq_true rfl) dX3_carves_23 rfl (kS ?_) kN
  obtain ⟨rfl, rfl⟩ := ret_of e
  exact v_iret hc_X3_carves rfl dX3_carves_26 rfl rfl
theorem w_X3_carves (D : va_G) (l : Launch) (hl : l.stackTraces = false) (x0 : Nat) (x1 : Int32) (h : AH) {r : Int32} {hF : AH} (e : f_X3_carves x0 x1 h = some (r, hF)) : MetV D l yX3_carves (Cond.code yX3_carves cX3_carves 3 (Option.some .int)) 2 70 [.ref x0, .int x1] h hF (oI r) :=
  met_ofF (by decide +kernel) hl (Nat.le_of_ble_eq_true rfl) rfl (v_X3_carves D l hl [.ref x0, .int x1] h x0 x1 h e)
/-! BlockPapersModel.carve(I)I  -/
abbrev G_X3_carve (D : va_G) (l : Launch) (as : List Value) (h0 hF : AH) (o : Out) : CT := (D, l, (yX3_carve.cls, yX3_carve, cX3_carve, 2, (Option.some .int), 3, 92, []), as, h0, hF, o)
theorem hc_X3_carve {D : va_G} {l : Launch} {as : List Value} {h0 hF : AH} {o : Out} : gC (G_X3_carve D l as h0 hF o) = cX3_carve := rfl
theorem ho_X3_carve {D : va_G} {l : Launch} {as : List Value} {h0 hF : AH} {o : Out} : gO (G_X3_carve D l as h0 hF o) = "BlockPapersModel" := rfl
theorem hp_X3_carve {D : va_G} {l : Launch} {as : List Value} {h0 hF : AH} {o : Out} (pc : Nat) : ∀ z ∈ tableOf (gHd (G_X3_carve D l as h0 hF o)), covers z pc = false := hpN
def f_X3_carve (x0 : Nat) (x1 : Int32) (h : AH) : Option (Int32 × AH) :=
  bd (stF h 2 x0 0 (.int (0 : Int32))) fun h1 =>
  gd (isC h1 2 x0) <|
  bd2 (f_X3_remembers x0 h1) fun r3 h4 =>
  gd (isC h4 2 x0) <|
  bd2 (f_X3_isBlock x0 x1 h4) fun r7 h8 =>
  if r7 = 0 then (
    gd (isC h8 2 x0) <|
    bd2 (f_X3_fails x0 (1 : Int32) h8) fun r11 h12 =>
    some (r11, h12)
  ) else (
    gd (isC h8 2 x0) <|
    bd2 (f_X3_carves x0 x1 h8) fun r15 h16 =>
    gd (isC h16 2 x0) <|
    bd2 (f_X3_ends x0 r15 (1 : Int32) h16) fun r19 h20 =>
    some (r19, h20)
  )
theorem v_X3_carve (D : va_G) (l : Launch) (hl : l.stackTraces = false) (as : List Value) (h0 : AH) {r : Int32} {hF : AH} (x0 : Nat) (x1 : Int32) (h : AH) (e : f_X3_carve x0 x1 h = some (r, hF)) : V (G_X3_carve D l as h0 hF (oI r)) h 0 [(0, .ref x0), (1, .int x1)] [] := by
  unfold f_X3_carve at e
  refine v_aload_n (pc' := 1) hc_X3_carve dX3_carve_0 rfl rfl 0 rfl ?_
  refine v_iconst (pc' := 2) (v := 0) hc_X3_carve dX3_carve_1 rfl rfl ?_
  refine v_pf (pc' := 5) hc_X3_carve ho_X3_carve KX3 0 (Nat.le_of_ble_eq_true rfl) q2242 (Or.inl rfl) rfl dX3_carve_2 rfl rfl rfl e (fun h1 _ e => ?_)
  refine v_aload_n (pc' := 6) hc_X3_carve dX3_carve_5 rfl rfl 0 rfl ?_
  obtain ⟨c2, e⟩ := gd_of e
  obtain ⟨r3, h4, e5, e⟩ := bd2_of e
  refine k_V (pc' := 9) (ci := 2) (n := 0) hc_X3_carve ho_X3_carve rfl c2 (w_X3_remembers D l hl x0 h1 e5) (wA_l q2324) q2326 (wA_l qs24) q85 q2327 hy_117 ⟨Nat.le_of_ble_eq_true rfl, Nat.le_of_ble_eq_true rfl⟩ rfl rfl (Nat.le_of_ble_eq_true rfl) dX3_carve_6 rfl (kU ?_) kN
  refine v_aload_n (pc' := 10) hc_X3_carve dX3_carve_9 rfl rfl 0 rfl ?_
  refine v_iload_n (pc' := 11) hc_X3_carve dX3_carve_10 rfl rfl 1 rfl ?_
  obtain ⟨c6, e⟩ := gd_of e
  obtain ⟨r7, h8, e9, e⟩ := bd2_of e
  refine k_V (pc' := 14) (ci := 2) (n := 1) hc_X3_carve ho_X3_carve rfl c6 (w_X3_isBlock D l hl x0 x1 h4 e9) (wA_l q2359) q2361 (wA_l qs31) q85 q2362 hy_130 ⟨Nat.le_of_ble_eq_true rfl, Nat.le_of_ble_eq_true rfl⟩ rfl rfl (Nat.le_of_ble_eq_true rfl) dX3_carve_11 rfl (kS ?_) kN
  refine v_if_eq (pt := 30) (pf := 17) hc_X3_carve dX3_carve_14 rfl rfl e (fun _ e => ?_) (fun _ e => ?_)
  · refine v_aload_n (pc' := 31) hc_X3_carve dX3_carve_30 rfl rfl 0 rfl ?_
    refine v_iconst (pc' := 32) (v := 1) hc_X3_carve dX3_carve_31 rfl rfl ?_
    obtain ⟨c10, e⟩ := gd_of e
    obtain ⟨r11, h12, e13, e⟩ := bd2_of e
    refine k_V (pc' := 35) (ci := 2) (n := 1) hc_X3_carve ho_X3_carve rfl c10 (w_X3_fails D l hl x0 (1 : Int32) h8 e13) (wA_l q2351) q2353 (wA_l qs30) q85 q2354 hy_119 ⟨Nat.le_of_ble_eq_true rfl, Nat.le_of_ble_eq_true rfl⟩ rfl rfl (Nat.le_of_ble_eq_true rfl) dX3_carve_32 rfl (kS ?_) kN
    obtain ⟨rfl, rfl⟩ := ret_of e
    exact v_iret hc_X3_carve rfl dX3_carve_35 rfl rfl
  · refine v_aload_n (pc' := 18) hc_X3_carve dX3_carve_17 rfl rfl 0 rfl ?_
    refine v_aload_n (pc' := 19) hc_X3_carve dX3_carve_18 rfl rfl 0 rfl ?_
    refine v_iload_n (pc' := 20) hc_X3_carve dX3_carve_19 rfl rfl 1 rfl ?_
    obtain ⟨c14, e⟩ := gd_of e
    obtain ⟨r15, h16, e17, e⟩ := bd2_of e
    refine k_V (pc' := 23) (ci := 2) (n := 1) hc_X3_carve ho_X3_carve rfl c14 (w_X3_carves D l hl x0 x1 h8 e17) (wA_l q2371) q2373 (wA_l qs33) q85 q2374 hy_136 ⟨Nat.le_of_ble_eq_true rfl, Nat.le_of_ble_eq_true rfl⟩ rfl rfl (Nat.le_of_ble_eq_true rfl) dX3_carve_20 rfl (kS ?_) kN
    refine v_iconst (pc' := 24) (v := 1) hc_X3_carve dX3_carve_23 rfl rfl ?_
    obtain ⟨c18, e⟩ := gd_of e
    obtain ⟨r19, h20, e21, e⟩ := bd2_of e
    refine k_V (pc' := 27) (ci := 2) (n := 2) hc_X3_carve ho_X3_carve rfl c18 (w_X3_ends D l hl x0 r15 (1 : Int32) h16 e21) (wA_l q2343) q2345 (wA_l qs28) q85 q2346 hy_124 ⟨Nat.le_of_ble_eq_true rfl, Nat.le_of_ble_eq_true rfl⟩ rfl rfl (Nat.le_of_ble_eq_true rfl) dX3_carve_24 rfl (kS ?_) kN
    refine v_goto (pt := 35) hc_X3_carve dX3_carve_27 rfl ?_
    obtain ⟨rfl, rfl⟩ := ret_of e
    exact v_iret hc_X3_carve rfl dX3_carve_35 rfl rfl
theorem w_X3_carve (D : va_G) (l : Launch) (hl : l.stackTraces = false) (x0 : Nat) (x1 : Int32) (h : AH) {r : Int32} {hF : AH} (e : f_X3_carve x0 x1 h = some (r, hF)) : MetV D l yX3_carve (Cond.code yX3_carve cX3_carve 2 (Option.some .int)) 3 92 [.ref x0, .int x1] h hF (oI r) :=
  met_ofF (by decide +kernel) hl (Nat.le_of_ble_eq_true rfl) rfl (v_X3_carve D l hl [.ref x0, .int x1] h x0 x1 h e)
/-! BlockPapersModel.inks(III)I  -/
abbrev G_X3_inks (D : va_G) (l : Launch) (as : List Value) (h0 hF : AH) (o : Out) : CT := (D, l, (yX3_inks.cls, yX3_inks, cX3_inks, 5, (Option.some .int), 2, 70, []), as, h0, hF, o)
theorem hc_X3_inks {D : va_G} {l : Launch} {as : List Value} {h0 hF : AH} {o : Out} : gC (G_X3_inks D l as h0 hF o) = cX3_inks := rfl
theorem ho_X3_inks {D : va_G} {l : Launch} {as : List Value} {h0 hF : AH} {o : Out} : gO (G_X3_inks D l as h0 hF o) = "BlockPapersModel" := rfl
theorem hp_X3_inks {D : va_G} {l : Launch} {as : List Value} {h0 hF : AH} {o : Out} (pc : Nat) : ∀ z ∈ tableOf (gHd (G_X3_inks D l as h0 hF o)), covers z pc = false := hpN
def f_X3_inks (x0 : Nat) (x1 : Int32) (x2 : Int32) (x3 : Int32) (h : AH) : Option (Int32 × AH) :=
  bd (gtR h 2 x0 1) fun v1 =>
  bd (ldI h 0 v1 (1 : Int32)) fun v2 =>
  if v2 = (12 : Int32) then (
    gd (isC h 2 x0) <|
    bd2 (f_X3_refused x0 (1 : Int32) (12 : Int32) h) fun r4 h5 =>
    some (r4, h5)
  ) else (
    bd (gtR h 2 x0 1) fun v7 =>
    bd (stI h v7 ((31 : Int32) + ((4 : Int32) * v2)) x1) fun h8 =>
    bd (gtR h8 2 x0 1) fun v9 =>
    bd (stI h8 v9 (((31 : Int32) + ((4 : Int32) * v2)) + (1 : Int32)) x2) fun h10 =>
    bd (gtR h10 2 x0 1) fun v11 =>
    bd (stI h10 v11 (((31 : Int32) + ((4 : Int32) * v2)) + (2 : Int32)) x3) fun h12 =>
    bd (gtR h12 2 x0 1) fun v13 =>
    bd (stI h12 v13 (1 : Int32) (v2 + (1 : Int32))) fun h14 =>
    gd (isC h14 2 x0) <|
    bd2 (f_X3_done x0 v2 h14) fun r16 h17 =>
    some (r16, h17)
  )
theorem v_X3_inks (D : va_G) (l : Launch) (hl : l.stackTraces = false) (as : List Value) (h0 : AH) {r : Int32} {hF : AH} (x0 : Nat) (x1 : Int32) (x2 : Int32) (x3 : Int32) (h : AH) (e : f_X3_inks x0 x1 x2 x3 h = some (r, hF)) : V (G_X3_inks D l as h0 hF (oI r)) h 0 [(0, .ref x0), (1, .int x1), (2, .int x2), (3, .int x3)] [] := by
  unfold f_X3_inks at e
  refine v_aload_n (pc' := 1) hc_X3_inks dX3_inks_0 rfl rfl 0 rfl ?_
  refine v_gfR (pc' := 4) hc_X3_inks ho_X3_inks KX3 1 (Nat.le_of_ble_eq_true rfl) q2243 (Or.inl rfl) dX3_inks_1 rfl e (fun v1 _ e => ?_)
  refine v_iconst (pc' := 5) (v := 1) hc_X3_inks dX3_inks_4 rfl rfl ?_
  refine v_iald (pc' := 6) hc_X3_inks dX3_inks_5 rfl e (fun v2 _ e => ?_)
  refine v_istore (pc' := 8) (lv' := [(4, .int v2), (0, .ref x0), (1, .int x1), (2, .int x2), (3, .int x3)]) hc_X3_inks dX3_inks_6 rfl (Nat.le_of_ble_eq_true rfl) rfl ?_
  refine v_iload (pc' := 10) hc_X3_inks dX3_inks_8 rfl 0 rfl ?_
  refine v_bipush (pc' := 12) (v := 12) hc_X3_inks dX3_inks_10 rfl rfl ?_
  refine v_icmp_ne (pt := 23) (pf := 15) hc_X3_inks dX3_inks_12 rfl rfl e (fun _ e => ?_) (fun _ e => ?_)
  · refine v_aload_n (pc' := 16) hc_X3_inks dX3_inks_15 rfl rfl 1 rfl ?_
    refine v_iconst (pc' := 17) (v := 1) hc_X3_inks dX3_inks_16 rfl rfl ?_
    refine v_bipush (pc' := 19) (v := 12) hc_X3_inks dX3_inks_17 rfl rfl ?_
    obtain ⟨c3, e⟩ := gd_of e
    obtain ⟨r4, h5, e6, e⟩ := bd2_of e
    refine k_V (pc' := 22) (ci := 2) (n := 2) hc_X3_inks ho_X3_inks rfl c3 (w_X3_refused D l hl x0 (1 : Int32) (12 : Int32) h e6) (wA_l q2335) q2337 (wA_l qs26) q85 q2338 hy_120 ⟨Nat.le_of_ble_eq_true rfl, Nat.le_of_ble_eq_true rfl⟩ rfl rfl (Nat.le_of_ble_eq_true rfl) dX3_inks_19 rfl (kS ?_) kN
    obtain ⟨rfl, rfl⟩ := ret_of e
    exact v_iret hc_X3_inks rfl dX3_inks_22 rfl rfl
  · refine v_aload_n (pc' := 24) hc_X3_inks dX3_inks_23 rfl rfl 1 rfl ?_
    refine v_gfR (pc' := 27) hc_X3_inks ho_X3_inks KX3 1 (Nat.le_of_ble_eq_true rfl) q2243 (Or.inl rfl) dX3_inks_24 rfl e (fun v7 _ e => ?_)
    refine v_bipush (pc' := 29) (v := 31) hc_X3_inks dX3_inks_27 rfl rfl ?_
    refine v_iconst (pc' := 30) (v := 4) hc_X3_inks dX3_inks_29 rfl rfl ?_
    refine v_iload (pc' := 32) hc_X3_inks dX3_inks_30 rfl 0 rfl ?_
    refine v_imul (pc' := 33) hc_X3_inks dX3_inks_32 rfl ?_
    refine v_iadd (pc' := 34) hc_X3_inks dX3_inks_33 rfl ?_
    refine v_iload_n (pc' := 35) hc_X3_inks dX3_inks_34 rfl rfl 2 rfl ?_
    refine v_iast (pc' := 36) hc_X3_inks dX3_inks_35 rfl e (fun h8 _ e => ?_)
    refine v_aload_n (pc' := 37) hc_X3_inks dX3_inks_36 rfl rfl 1 rfl ?_
    refine v_gfR (pc' := 40) hc_X3_inks ho_X3_inks KX3 1 (Nat.le_of_ble_eq_true rfl) q2243 (Or.inl rfl) dX3_inks_37 rfl e (fun v9 _ e => ?_)
    refine v_bipush (pc' := 42) (v := 31) hc_X3_inks dX3_inks_40 rfl rfl ?_
    refine v_iconst (pc' := 43) (v := 4) hc_X3_inks dX3_inks_42 rfl rfl ?_
    refine v_iload (pc' := 45) hc_X3_inks dX3_inks_43 rfl 0 rfl ?_
    refine v_imul (pc' := 46) hc_X3_inks dX3_inks_45 rfl ?_
    refine v_iadd (pc' := 47) hc_X3_inks dX3_inks_46 rfl ?_
    refine v_iconst (pc' := 48) (v := 1) hc_X3_inks dX3_inks_47 rfl rfl ?_
    refine v_iadd (pc' := 49) hc_X3_inks dX3_inks_48 rfl ?_
    refine v_iload_n (pc' := 50) hc_X3_inks dX3_inks_49 rfl rfl 3 rfl ?_
    refine v_iast (pc' := 51) hc_X3_inks dX3_inks_50 rfl e (fun h10 _ e => ?_)
    refine v_aload_n (pc' := 52) hc_X3_inks dX3_inks_51 rfl rfl 1 rfl ?_
    refine v_gfR (pc' := 55) hc_X3_inks ho_X3_inks KX3 1 (Nat.le_of_ble_eq_true rfl) q2243 (Or.inl rfl) dX3_inks_52 rfl e (fun v11 _ e => ?_)
    refine v_bipush (pc' := 57) (v := 31) hc_X3_inks dX3_inks_55 rfl rfl ?_
    refine v_iconst (pc' := 58) (v := 4) hc_X3_inks dX3_inks_57 rfl rfl ?_
    refine v_iload (pc' := 60) hc_X3_inks dX3_inks_58 rfl 0 rfl ?_
    refine v_imul (pc' := 61) hc_X3_inks dX3_inks_60 rfl ?_
    refine v_iadd (pc' := 62) hc_X3_inks dX3_inks_61 rfl ?_
    refine v_iconst (pc' := 63) (v := 2) hc_X3_inks dX3_inks_62 rfl rfl ?_
    refine v_iadd (pc' := 64) hc_X3_inks dX3_inks_63 rfl ?_
    refine v_iload_n (pc' := 65) hc_X3_inks dX3_inks_64 rfl rfl 4 rfl ?_
    refine v_iast (pc' := 66) hc_X3_inks dX3_inks_65 rfl e (fun h12 _ e => ?_)
    refine v_aload_n (pc' := 67) hc_X3_inks dX3_inks_66 rfl rfl 1 rfl ?_
    refine v_gfR (pc' := 70) hc_X3_inks ho_X3_inks KX3 1 (Nat.le_of_ble_eq_true rfl) q2243 (Or.inl rfl) dX3_inks_67 rfl e (fun v13 _ e => ?_)
    refine v_iconst (pc' := 71) (v := 1) hc_X3_inks dX3_inks_70 rfl rfl ?_
    refine v_iload (pc' := 73) hc_X3_inks dX3_inks_71 rfl 0 rfl ?_
    refine v_iconst (pc' := 74) (v := 1) hc_X3_inks dX3_inks_73 rfl rfl ?_
    refine v_iadd (pc' := 75) hc_X3_inks dX3_inks_74 rfl ?_
    refine v_iast (pc' := 76) hc_X3_inks dX3_inks_75 rfl e (fun h14 _ e => ?_)
    refine v_aload_n (pc' := 77) hc_X3_inks dX3_inks_76 rfl rfl 1 rfl ?_
    refine v_iload (pc' := 79) hc_X3_inks dX3_inks_77 rfl 0 rfl ?_
    obtain ⟨c15, e⟩ := gd_of e
    obtain ⟨r16, h17, e18, e⟩ := bd2_of e
    refine k_V (pc' := 82) (ci := 2) (n := 1) hc_X3_inks ho_X3_inks rfl c15 (w_X3_done D l hl x0 v2 h14 e18) (wA_l q2339) q2341 (wA_l qs27) q85 q2342 hy_121 ⟨Nat.le_of_ble_eq_true rfl, Nat.le_of_ble_eq_true rfl⟩ rfl rfl (Nat.le_of_ble_eq_true rfl) dX3_inks_79 rfl (kS ?_) kN
    obtain ⟨rfl, rfl⟩ := ret_of e
    exact v_iret hc_X3_inks rfl dX3_inks_82 rfl rfl
theorem w_X3_inks (D : va_G) (l : Launch) (hl : l.stackTraces = false) (x0 : Nat) (x1 : Int32) (x2 : Int32) (x3 : Int32) (h : AH) {r : Int32} {hF : AH} (e : f_X3_inks x0 x1 x2 x3 h = some (r, hF)) : MetV D l yX3_inks (Cond.code yX3_inks cX3_inks 5 (Option.some .int)) 2 70 [.ref x0, .int x1, .int x2, .int x3] h hF (oI r) :=
  met_ofF (by decide +kernel) hl (Nat.le_of_ble_eq_true rfl) rfl (v_X3_inks D l hl [.ref x0, .int x1, .int x2, .int x3] h x0 x1 x2 x3 h e)
/-! BlockPapersModel.ink(III)I  -/
abbrev G_X3_ink (D : va_G) (l : Launch) (as : List Value) (h0 hF : AH) (o : Out) : CT := (D, l, (yX3_ink.cls, yX3_ink, cX3_ink, 4, (Option.some .int), 3, 94, []), as, h0, hF, o)
theorem hc_X3_ink {D : va_G} {l : Launch} {as : List Value} {h0 hF : AH} {o : Out} : gC (G_X3_ink D l as h0 hF o) = cX3_ink := rfl
theorem ho_X3_ink {D : va_G} {l : Launch} {as : List Value} {h0 hF : AH} {o : Out} : gO (G_X3_ink D l as h0 hF o) = "BlockPapersModel" := rfl
theorem hp_X3_ink {D : va_G} {l : Launch} {as : List Value} {h0 hF : AH} {o : Out} (pc : Nat) : ∀ z ∈ tableOf (gHd (G_X3_ink D l as h0 hF o)), covers z pc = false := hpN
def f_X3_ink (x0 : Nat) (x1 : Int32) (x2 : Int32) (x3 : Int32) (h : AH) : Option (Int32 × AH) :=
  bd (stF h 2 x0 0 (.int (0 : Int32))) fun h1 =>
  gd (isC h1 2 x0) <|
  bd2 (f_X3_remembers x0 h1) fun r3 h4 =>
  bd2 (f_X3_in x1 (0 : Int32) (5 : Int32) h4) fun r6 h7 =>
  if r6 = 0 then (
    gd (isC h7 2 x0) <|
    bd2 (f_X3_fails x0 (1 : Int32) h7) fun r10 h11 =>
    some (r10, h11)
  ) else (
    bd2 (f_X3_in x2 (0 : Int32) (9 : Int32) h7) fun r13 h14 =>
    if r13 = 0 then (
      gd (isC h14 2 x0) <|
      bd2 (f_X3_fails x0 (1 : Int32) h14) fun r17 h18 =>
      some (r17, h18)
    ) else (
      bd2 (f_X3_in x3 (1 : Int32) (999 : Int32) h14) fun r20 h21 =>
      if r20 = 0 then (
        gd (isC h21 2 x0) <|
        bd2 (f_X3_fails x0 (1 : Int32) h21) fun r24 h25 =>
        some (r24, h25)
      ) else (
        gd (isC h21 2 x0) <|
        bd2 (f_X3_inks x0 x1 x2 x3 h21) fun r28 h29 =>
        gd (isC h29 2 x0) <|
        bd2 (f_X3_ends x0 r28 (2 : Int32) h29) fun r32 h33 =>
        some (r32, h33)
      )
    )
  )
theorem v_X3_ink (D : va_G) (l : Launch) (hl : l.stackTraces = false) (as : List Value) (h0 : AH) {r : Int32} {hF : AH} (x0 : Nat) (x1 : Int32) (x2 : Int32) (x3 : Int32) (h : AH) (e : f_X3_ink x0 x1 x2 x3 h = some (r, hF)) : V (G_X3_ink D l as h0 hF (oI r)) h 0 [(0, .ref x0), (1, .int x1), (2, .int x2), (3, .int x3)] [] := by
  unfold f_X3_ink at e
  refine v_aload_n (pc' := 1) hc_X3_ink dX3_ink_0 rfl rfl 0 rfl ?_
  refine v_iconst (pc' := 2) (v := 0) hc_X3_ink dX3_ink_1 rfl rfl ?_
  refine v_pf (pc' := 5) hc_X3_ink ho_X3_ink KX3 0 (Nat.le_of_ble_eq_true rfl) q2242 (Or.inl rfl) rfl dX3_ink_2 rfl rfl rfl e (fun h1 _ e => ?_)
  refine v_aload_n (pc' := 6) hc_X3_ink dX3_ink_5 rfl rfl 0 rfl ?_
  obtain ⟨c2, e⟩ := gd_of e
  obtain ⟨r3, h4, e5, e⟩ := bd2_of e
  refine k_V (pc' := 9) (ci := 2) (n := 0) hc_X3_ink ho_X3_ink rfl c2 (w_X3_remembers D l hl x0 h1 e5) (wA_l q2324) q2326 (wA_l qs24) q85 q2327 hy_117 ⟨Nat.le_of_ble_eq_true rfl, Nat.le_of_ble_eq_true rfl⟩ rfl rfl (Nat.le_of_ble_eq_true rfl) dX3_ink_6 rfl (kU ?_) kN
  refine v_iload_n (pc' := 10) hc_X3_ink dX3_ink_9 rfl rfl 1 rfl ?_
  refine v_iconst (pc' := 11) (v := 0) hc_X3_ink dX3_ink_10 rfl rfl ?_
  refine v_iconst (pc' := 12) (v := 5) hc_X3_ink dX3_ink_11 rfl rfl ?_
  obtain ⟨r6, h7, e8, e⟩ := bd2_of e
  refine k_S (pc' := 15) (n := 3) hc_X3_ink ho_X3_ink (w_X3_in D l hl x1 (0 : Int32) (5 : Int32) h4 e8) (wA_l q2328) q2329 q85 q2330 hy_118 ⟨Nat.le_of_ble_eq_true rfl, Nat.le_of_ble_eq_true rfl⟩ rfl rfl (Nat.le_of_ble_eq_true rfl) dX3_ink_12 rfl (kS ?_) kN
  refine v_if_eq (pt := 54) (pf := 18) hc_X3_ink dX3_ink_15 rfl rfl e (fun _ e => ?_) (fun _ e => ?_)
  · refine v_aload_n (pc' := 55) hc_X3_ink dX3_ink_54 rfl rfl 0 rfl ?_
    refine v_iconst (pc' := 56) (v := 1) hc_X3_ink dX3_ink_55 rfl rfl ?_
    obtain ⟨c9, e⟩ := gd_of e
    obtain ⟨r10, h11, e12, e⟩ := bd2_of e
    refine k_V (pc' := 59) (ci := 2) (n := 1) hc_X3_ink ho_X3_ink rfl c9 (w_X3_fails D l hl x0 (1 : Int32) h7 e12) (wA_l q2351) q2353 (wA_l qs30) q85 q2354 hy_119 ⟨Nat.le_of_ble_eq_true rfl, Nat.le_of_ble_eq_true rfl⟩ rfl rfl (Nat.le_of_ble_eq_true rfl) dX3_ink_56 rfl (kS ?_) kN
    obtain ⟨rfl, rfl⟩ := ret_of e
    exact v_iret hc_X3_ink rfl dX3_ink_59 rfl rfl
  · refine v_iload_n (pc' := 19) hc_X3_ink dX3_ink_18 rfl rfl 2 rfl ?_
    refine v_iconst (pc' := 20) (v := 0) hc_X3_ink dX3_ink_19 rfl rfl ?_
    refine v_bipush (pc' := 22) (v := 9) hc_X3_ink dX3_ink_20 rfl rfl ?_
    obtain ⟨r13, h14, e15, e⟩ := bd2_of e
    refine k_S (pc' := 25) (n := 3) hc_X3_ink ho_X3_ink (w_X3_in D l hl x2 (0 : Int32) (9 : Int32) h7 e15) (wA_l q2328) q2329 q85 q2330 hy_118 ⟨Nat.le_of_ble_eq_true rfl, Nat.le_of_ble_eq_true rfl⟩ rfl rfl (Nat.le_of_ble_eq_true rfl) dX3_ink_22 rfl (kS ?_) kN
    refine v_if_eq (pt := 54) (pf := 28) hc_X3_ink dX3_ink_25 rfl rfl e (fun _ e => ?_) (fun _ e => ?_)
    · refine v_aload_n (pc' := 55) hc_X3_ink dX3_ink_54 rfl rfl 0 rfl ?_
      refine v_iconst (pc' := 56) (v := 1) hc_X3_ink dX3_ink_55 rfl rfl ?_
      obtain ⟨c16, e⟩ := gd_of e
      obtain ⟨r17, h18, e19, e⟩ := bd2_of e
      refine k_V (pc' := 59) (ci := 2) (n := 1) hc_X3_ink ho_X3_ink rfl c16 (w_X3_fails D l hl x0 (1 : Int32) h14 e19) (wA_l q2351) q2353 (wA_l qs30) q85 q2354 hy_119 ⟨Nat.le_of_ble_eq_true rfl, Nat.le_of_ble_eq_true rfl⟩ rfl rfl (Nat.le_of_ble_eq_true rfl) dX3_ink_56 rfl (kS ?_) kN
      obtain ⟨rfl, rfl⟩ := ret_of e
      exact v_iret hc_X3_ink rfl dX3_ink_59 rfl rfl
    · refine v_iload_n (pc' := 29) hc_X3_ink dX3_ink_28 rfl rfl 3 rfl ?_
      refine v_iconst (pc' := 30) (v := 1) hc_X3_ink dX3_ink_29 rfl rfl ?_
      refine v_sipush (pc' := 33) (v := 999) hc_X3_ink dX3_ink_30 rfl rfl ?_
      obtain ⟨r20, h21, e22, e⟩ := bd2_of e
      refine k_S (pc' := 36) (n := 3) hc_X3_ink ho_X3_ink (w_X3_in D l hl x3 (1 : Int32) (999 : Int32) h14 e22) (wA_l q2328) q2329 q85 q2330 hy_118 ⟨Nat.le_of_ble_eq_true rfl, Nat.le_of_ble_eq_true rfl⟩ rfl rfl (Nat.le_of_ble_eq_true rfl) dX3_ink_33 rfl (kS ?_) kN
      refine v_if_eq (pt := 54) (pf := 39) hc_X3_ink dX3_ink_36 rfl rfl e (fun _ e => ?_) (fun _ e => ?_)
      · refine v_aload_n (pc' := 55) hc_X3_ink dX3_ink_54 rfl rfl 0 rfl ?_
        refine v_iconst (pc' := 56) (v := 1) hc_X3_ink dX3_ink_55 rfl rfl ?_
        obtain ⟨c23, e⟩ := gd_of e
        obtain ⟨r24, h25, e26, e⟩ := bd2_of e
        refine k_V (pc' := 59) (ci := 2) (n := 1) hc_X3_ink ho_X3_ink rfl c23 (w_X3_fails D l hl x0 (1 : Int32) h21 e26) (wA_l q2351) q2353 (wA_l qs30) q85 q2354 hy_119 ⟨Nat.le_of_ble_eq_true rfl, Nat.le_of_ble_eq_true rfl⟩ rfl rfl (Nat.le_of_ble_eq_true rfl) dX3_ink_56 rfl (kS ?_) kN
        obtain ⟨rfl, rfl⟩ := ret_of e
        exact v_iret hc_X3_ink rfl dX3_ink_59 rfl rfl
      · refine v_aload_n (pc' := 40) hc_X3_ink dX3_ink_39 rfl rfl 0 rfl ?_
        refine v_aload_n (pc' := 41) hc_X3_ink dX3_ink_40 rfl rfl 0 rfl ?_
        refine v_iload_n (pc' := 42) hc_X3_ink dX3_ink_41 rfl rfl 1 rfl ?_
        refine v_iload_n (pc' := 43) hc_X3_ink dX3_ink_42 rfl rfl 2 rfl ?_
        refine v_iload_n (pc' := 44) hc_X3_ink dX3_ink_43 rfl rfl 3 rfl ?_
        obtain ⟨c27, e⟩ := gd_of e
        obtain ⟨r28, h29, e30, e⟩ := bd2_of e
        refine k_V (pc' := 47) (ci := 2) (n := 3) hc_X3_ink ho_X3_ink rfl c27 (w_X3_inks D l hl x0 x1 x2 x3 h21 e30) (wA_l q2379) q2381 (wA_l qs34) q85 q2382 hy_140 ⟨Nat.le_of_ble_eq_true rfl, Nat.le_of_ble_eq_true rfl⟩ rfl rfl (Nat.le_of_ble_eq_true rfl) dX3_ink_44 rfl (kS ?_) kN
        refine v_iconst (pc' := 48) (v := 2) hc_X3_ink dX3_ink_47 rfl rfl ?_
        obtain ⟨c31, e⟩ := gd_of e
        obtain ⟨r32, h33, e34, e⟩ := bd2_of e
        refine k_V (pc' := 51) (ci := 2) (n := 2) hc_X3_ink ho_X3_ink rfl c31 (w_X3_ends D l hl x0 r28 (2 : Int32) h29 e34) (wA_l q2343) q2345 (wA_l qs28) q85 q2346 hy_124 ⟨Nat.le_of_ble_eq_true rfl, Nat.le_of_ble_eq_true rfl⟩ rfl rfl (Nat.le_of_ble_eq_true rfl) dX3_ink_48 rfl (kS ?_) kN
        refine v_goto (pt := 59) hc_X3_ink dX3_ink_51 rfl ?_
        obtain ⟨rfl, rfl⟩ := ret_of e
        exact v_iret hc_X3_ink rfl dX3_ink_59 rfl rfl
theorem w_X3_ink (D : va_G) (l : Launch) (hl : l.stackTraces = false) (x0 : Nat) (x1 : Int32) (x2 : Int32) (x3 : Int32) (h : AH) {r : Int32} {hF : AH} (e : f_X3_ink x0 x1 x2 x3 h = some (r, hF)) : MetV D l yX3_ink (Cond.code yX3_ink cX3_ink 4 (Option.some .int)) 3 94 [.ref x0, .int x1, .int x2, .int x3] h hF (oI r) :=
  met_ofF (by decide +kernel) hl (Nat.le_of_ble_eq_true rfl) rfl (v_X3_ink D l hl [.ref x0, .int x1, .int x2, .int x3] h x0 x1 x2 x3 h e)
/-! BlockPapersModel.isInk(I)Z  -/
abbrev G_X3_isInk (D : va_G) (l : Launch) (as : List Value) (h0 hF : AH) (o : Out) : CT := (D, l, (yX3_isInk.cls, yX3_isInk, cX3_isInk, 2, (Option.some .boolean), 2, 70, []), as, h0, hF, o)
theorem hc_X3_isInk {D : va_G} {l : Launch} {as : List Value} {h0 hF : AH} {o : Out} : gC (G_X3_isInk D l as h0 hF o) = cX3_isInk := rfl
theorem ho_X3_isInk {D : va_G} {l : Launch} {as : List Value} {h0 hF : AH} {o : Out} : gO (G_X3_isInk D l as h0 hF o) = "BlockPapersModel" := rfl
theorem hp_X3_isInk {D : va_G} {l : Launch} {as : List Value} {h0 hF : AH} {o : Out} (pc : Nat) : ∀ z ∈ tableOf (gHd (G_X3_isInk D l as h0 hF o)), covers z pc = false := hpN
def f_X3_isInk (x0 : Nat) (x1 : Int32) (h : AH) : Option (Int32 × AH) :=
  bd (gtR h 2 x0 1) fun v1 =>
  bd (ldI h 0 v1 (1 : Int32)) fun v2 =>
  bd2 (f_X3_in x1 (0 : Int32) (v2 - (1 : Int32)) h) fun r3 h4 =>
  gd (nrw .boolean r3) <|
  some (r3, h4)
theorem v_X3_isInk (D : va_G) (l : Launch) (hl : l.stackTraces = false) (as : List Value) (h0 : AH) {r : Int32} {hF : AH} (x0 : Nat) (x1 : Int32) (h : AH) (e : f_X3_isInk x0 x1 h = some (r, hF)) : V (G_X3_isInk D l as h0 hF (oI r)) h 0 [(0, .ref x0), (1, .int x1)] [] := by
  unfold f_X3_isInk at e
  refine v_iload_n (pc' := 1) hc_X3_isInk dX3_isInk_0 rfl rfl 1 rfl ?_
  refine v_iconst (pc' := 2) (v := 0) hc_X3_isInk dX3_isInk_1 rfl rfl ?_
  refine v_aload_n (pc' := 3) hc_X3_isInk dX3_isInk_2 rfl rfl 0 rfl ?_
  refine v_gfR (pc' := 6) hc_X3_isInk ho_X3_isInk KX3 1 (Nat.le_of_ble_eq_true rfl) q2243 (Or.inl rfl) dX3_isInk_3 rfl e (fun v1 _ e => ?_)
  refine v_iconst (pc' := 7) (v := 1) hc_X3_isInk dX3_isInk_6 rfl rfl ?_
  refine v_iald (pc' := 8) hc_X3_isInk dX3_isInk_7 rfl e (fun v2 _ e => ?_)
  refine v_iconst (pc' := 9) (v := 1) hc_X3_isInk dX3_isInk_8 rfl rfl ?_
  refine v_isub (pc' := 10) hc_X3_isInk dX3_isInk_9 rfl ?_
  obtain ⟨r3, h4, e5, e⟩ := bd2_of e
  refine k_S (pc' := 13) (n := 3) hc_X3_isInk ho_X3_isInk (w_X3_in D l hl x1 (0 : Int32) (v2 - (1 : Int32)) h e5) (wA_l q2328) q2329 q85 q2330 hy_118 ⟨Nat.le_of_ble_eq_true rfl, Nat.le_of_ble_eq_true rfl⟩ rfl rfl (Nat.le_of_ble_eq_true rfl) dX3_isInk_10 rfl (kS ?_) kN
  obtain ⟨c6, e⟩ := gd_of e
  obtain ⟨rfl, rfl⟩ := ret_of e
  exact v_zret hc_X3_isInk rfl (nrw_of c6) dX3_isInk_13 rfl rfl
theorem w_X3_isInk (D : va_G) (l : Launch) (hl : l.stackTraces = false) (x0 : Nat) (x1 : Int32) (h : AH) {r : Int32} {hF : AH} (e : f_X3_isInk x0 x1 h = some (r, hF)) : MetV D l yX3_isInk (Cond.code yX3_isInk cX3_isInk 2 (Option.some .boolean)) 2 70 [.ref x0, .int x1] h hF (oI r) :=
  met_ofF (by decide +kernel) hl (Nat.le_of_ble_eq_true rfl) rfl (v_X3_isInk D l hl [.ref x0, .int x1] h x0 x1 h e)
/-! BlockPapersModel.inkRow(II)I  -/
abbrev G_X3_inkRow (D : va_G) (l : Launch) (as : List Value) (h0 hF : AH) (o : Out) : CT := (D, l, (yX3_inkRow.cls, yX3_inkRow, cX3_inkRow, 3, (Option.some .int), 1, 48, []), as, h0, hF, o)
theorem hc_X3_inkRow {D : va_G} {l : Launch} {as : List Value} {h0 hF : AH} {o : Out} : gC (G_X3_inkRow D l as h0 hF o) = cX3_inkRow := rfl
theorem ho_X3_inkRow {D : va_G} {l : Launch} {as : List Value} {h0 hF : AH} {o : Out} : gO (G_X3_inkRow D l as h0 hF o) = "BlockPapersModel" := rfl
theorem hp_X3_inkRow {D : va_G} {l : Launch} {as : List Value} {h0 hF : AH} {o : Out} (pc : Nat) : ∀ z ∈ tableOf (gHd (G_X3_inkRow D l as h0 hF o)), covers z pc = false := hpN
def f_X3_inkRow (x0 : Nat) (x1 : Int32) (x2 : Int32) (h : AH) : Option (Int32 × AH) :=
  bd (gtR h 2 x0 1) fun v1 =>
  bd (ldI h 0 v1 (((31 : Int32) + ((4 : Int32) * x1)) + x2)) fun v2 =>
  some (v2, h)
theorem v_X3_inkRow (D : va_G) (l : Launch) (hl : l.stackTraces = false) (as : List Value) (h0 : AH) {r : Int32} {hF : AH} (x0 : Nat) (x1 : Int32) (x2 : Int32) (h : AH) (e : f_X3_inkRow x0 x1 x2 h = some (r, hF)) : V (G_X3_inkRow D l as h0 hF (oI r)) h 0 [(0, .ref x0), (1, .int x1), (2, .int x2)] [] := by
  unfold f_X3_inkRow at e
  refine v_aload_n (pc' := 1) hc_X3_inkRow dX3_inkRow_0 rfl rfl 0 rfl ?_
  refine v_gfR (pc' := 4) hc_X3_inkRow ho_X3_inkRow KX3 1 (Nat.le_of_ble_eq_true rfl) q2243 (Or.inl rfl) dX3_inkRow_1 rfl e (fun v1 _ e => ?_)
  refine v_bipush (pc' := 6) (v := 31) hc_X3_inkRow dX3_inkRow_4 rfl rfl ?_
  refine v_iconst (pc' := 7) (v := 4) hc_X3_inkRow dX3_inkRow_6 rfl rfl ?_
  refine v_iload_n (pc' := 8) hc_X3_inkRow dX3_inkRow_7 rfl rfl 1 rfl ?_
  refine v_imul (pc' := 9) hc_X3_inkRow dX3_inkRow_8 rfl ?_
  refine v_iadd (pc' := 10) hc_X3_inkRow dX3_inkRow_9 rfl ?_
  refine v_iload_n (pc' := 11) hc_X3_inkRow dX3_inkRow_10 rfl rfl 2 rfl ?_
  refine v_iadd (pc' := 12) hc_X3_inkRow dX3_inkRow_11 rfl ?_
  refine v_iald (pc' := 13) hc_X3_inkRow dX3_inkRow_12 rfl e (fun v2 _ e => ?_)
  obtain ⟨rfl, rfl⟩ := ret_of e
  exact v_iret hc_X3_inkRow rfl dX3_inkRow_13 rfl rfl
theorem w_X3_inkRow (D : va_G) (l : Launch) (hl : l.stackTraces = false) (x0 : Nat) (x1 : Int32) (x2 : Int32) (h : AH) {r : Int32} {hF : AH} (e : f_X3_inkRow x0 x1 x2 h = some (r, hF)) : MetV D l yX3_inkRow (Cond.code yX3_inkRow cX3_inkRow 3 (Option.some .int)) 1 48 [.ref x0, .int x1, .int x2] h hF (oI r) :=
  met_ofF (by decide +kernel) hl (Nat.le_of_ble_eq_true rfl) rfl (v_X3_inkRow D l hl [.ref x0, .int x1, .int x2] h x0 x1 x2 h e)
/-! BlockPapersModel.inkOf(II)I  -/
abbrev G_X3_inkOf (D : va_G) (l : Launch) (as : List Value) (h0 hF : AH) (o : Out) : CT := (D, l, (yX3_inkOf.cls, yX3_inkOf, cX3_inkOf, 3, (Option.some .int), 3, 91, []), as, h0, hF, o)
theorem hc_X3_inkOf {D : va_G} {l : Launch} {as : List Value} {h0 hF : AH} {o : Out} : gC (G_X3_inkOf D l as h0 hF o) = cX3_inkOf := rfl
theorem ho_X3_inkOf {D : va_G} {l : Launch} {as : List Value} {h0 hF : AH} {o : Out} : gO (G_X3_inkOf D l as h0 hF o) = "BlockPapersModel" := rfl
theorem hp_X3_inkOf {D : va_G} {l : Launch} {as : List Value} {h0 hF : AH} {o : Out} (pc : Nat) : ∀ z ∈ tableOf (gHd (G_X3_inkOf D l as h0 hF o)), covers z pc = false := hpN
def f_X3_inkOf (x0 : Nat) (x1 : Int32) (x2 : Int32) (h : AH) : Option (Int32 × AH) :=
  bd (stF h 2 x0 0 (.int (0 : Int32))) fun h1 =>
  gd (isC h1 2 x0) <|
  bd2 (f_X3_isInk x0 x1 h1) fun r3 h4 =>
  if r3 = 0 then (
    gd (isC h4 2 x0) <|
    bd2 (f_X3_fails x0 (1 : Int32) h4) fun r7 h8 =>
    some (r7, h8)
  ) else (
    bd2 (f_X3_in x2 (0 : Int32) (3 : Int32) h4) fun r10 h11 =>
    if r10 = 0 then (
      gd (isC h11 2 x0) <|
      bd2 (f_X3_fails x0 (2 : Int32) h11) fun r14 h15 =>
      some (r14, h15)
    ) else (
      gd (isC h11 2 x0) <|
      bd2 (f_X3_inkRow x0 x1 x2 h11) fun r18 h19 =>
      some (r18, h19)
    )
  )
theorem v_X3_inkOf (D : va_G) (l : Launch) (hl : l.stackTraces = false) (as : List Value) (h0 : AH) {r : Int32} {hF : AH} (x0 : Nat) (x1 : Int32) (x2 : Int32) (h : AH) (e : f_X3_inkOf x0 x1 x2 h = some (r, hF)) : V (G_X3_inkOf D l as h0 hF (oI r)) h 0 [(0, .ref x0), (1, .int x1), (2, .int x2)] [] := by
  unfold f_X3_inkOf at e
  refine v_aload_n (pc' := 1) hc_X3_inkOf dX3_inkOf_0 rfl rfl 0 rfl ?_
  refine v_iconst (pc' := 2) (v := 0) hc_X3_inkOf dX3_inkOf_1 rfl rfl ?_
  refine v_pf (pc' := 5) hc_X3_inkOf ho_X3_inkOf KX3 0 (Nat.le_of_ble_eq_true rfl) q2242 (Or.inl rfl) rfl dX3_inkOf_2 rfl rfl rfl e (fun h1 _ e => ?_)
  refine v_aload_n (pc' := 6) hc_X3_inkOf dX3_inkOf_5 rfl rfl 0 rfl ?_
  refine v_iload_n (pc' := 7) hc_X3_inkOf dX3_inkOf_6 rfl rfl 1 rfl ?_
  obtain ⟨c2, e⟩ := gd_of e
  obtain ⟨r3, h4, e5, e⟩ := bd2_of e
  refine k_V (pc' := 10) (ci := 2) (n := 1) hc_X3_inkOf ho_X3_inkOf rfl c2 (w_X3_isInk D l hl x0 x1 h1 e5) (wA_l q2387) q2389 (wA_l qs35) q85 q2390 hy_144 ⟨Nat.le_of_ble_eq_true rfl, Nat.le_of_ble_eq_true rfl⟩ rfl rfl (Nat.le_of_ble_eq_true rfl) dX3_inkOf_7 rfl (kS ?_) kN
  refine v_if_ne (pt := 19) (pf := 13) hc_X3_inkOf dX3_inkOf_10 rfl rfl e (fun _ e => ?_) (fun _ e => ?_)
  · refine v_aload_n (pc' := 14) hc_X3_inkOf dX3_inkOf_13 rfl rfl 0 rfl ?_
    refine v_iconst (pc' := 15) (v := 1) hc_X3_inkOf dX3_inkOf_14 rfl rfl ?_
    obtain ⟨c6, e⟩ := gd_of e
    obtain ⟨r7, h8, e9, e⟩ := bd2_of e
    refine k_V (pc' := 18) (ci := 2) (n := 1) hc_X3_inkOf ho_X3_inkOf rfl c6 (w_X3_fails D l hl x0 (1 : Int32) h4 e9) (wA_l q2351) q2353 (wA_l qs30) q85 q2354 hy_119 ⟨Nat.le_of_ble_eq_true rfl, Nat.le_of_ble_eq_true rfl⟩ rfl rfl (Nat.le_of_ble_eq_true rfl) dX3_inkOf_15 rfl (kS ?_) kN
    obtain ⟨rfl, rfl⟩ := ret_of e
    exact v_iret hc_X3_inkOf rfl dX3_inkOf_18 rfl rfl
  · refine v_iload_n (pc' := 20) hc_X3_inkOf dX3_inkOf_19 rfl rfl 2 rfl ?_
    refine v_iconst (pc' := 21) (v := 0) hc_X3_inkOf dX3_inkOf_20 rfl rfl ?_
    refine v_iconst (pc' := 22) (v := 3) hc_X3_inkOf dX3_inkOf_21 rfl rfl ?_
    obtain ⟨r10, h11, e12, e⟩ := bd2_of e
    refine k_S (pc' := 25) (n := 3) hc_X3_inkOf ho_X3_inkOf (w_X3_in D l hl x2 (0 : Int32) (3 : Int32) h4 e12) (wA_l q2328) q2329 q85 q2330 hy_118 ⟨Nat.le_of_ble_eq_true rfl, Nat.le_of_ble_eq_true rfl⟩ rfl rfl (Nat.le_of_ble_eq_true rfl) dX3_inkOf_22 rfl (kS ?_) kN
    refine v_if_eq (pt := 37) (pf := 28) hc_X3_inkOf dX3_inkOf_25 rfl rfl e (fun _ e => ?_) (fun _ e => ?_)
    · refine v_aload_n (pc' := 38) hc_X3_inkOf dX3_inkOf_37 rfl rfl 0 rfl ?_
      refine v_iconst (pc' := 39) (v := 2) hc_X3_inkOf dX3_inkOf_38 rfl rfl ?_
      obtain ⟨c13, e⟩ := gd_of e
      obtain ⟨r14, h15, e16, e⟩ := bd2_of e
      refine k_V (pc' := 42) (ci := 2) (n := 1) hc_X3_inkOf ho_X3_inkOf rfl c13 (w_X3_fails D l hl x0 (2 : Int32) h11 e16) (wA_l q2351) q2353 (wA_l qs30) q85 q2354 hy_119 ⟨Nat.le_of_ble_eq_true rfl, Nat.le_of_ble_eq_true rfl⟩ rfl rfl (Nat.le_of_ble_eq_true rfl) dX3_inkOf_39 rfl (kS ?_) kN
      obtain ⟨rfl, rfl⟩ := ret_of e
      exact v_iret hc_X3_inkOf rfl dX3_inkOf_42 rfl rfl
    · refine v_aload_n (pc' := 29) hc_X3_inkOf dX3_inkOf_28 rfl rfl 0 rfl ?_
      refine v_iload_n (pc' := 30) hc_X3_inkOf dX3_inkOf_29 rfl rfl 1 rfl ?_
      refine v_iload_n (pc' := 31) hc_X3_inkOf dX3_inkOf_30 rfl rfl 2 rfl ?_
      obtain ⟨c17, e⟩ := gd_of e
      obtain ⟨r18, h19, e20, e⟩ := bd2_of e
      refine k_V (pc' := 34) (ci := 2) (n := 2) hc_X3_inkOf ho_X3_inkOf rfl c17 (w_X3_inkRow D l hl x0 x1 x2 h11 e20) (wA_l q2391) q2393 (wA_l qs36) q85 q2394 hy_145 ⟨Nat.le_of_ble_eq_true rfl, Nat.le_of_ble_eq_true rfl⟩ rfl rfl (Nat.le_of_ble_eq_true rfl) dX3_inkOf_31 rfl (kS ?_) kN
      refine v_goto (pt := 42) hc_X3_inkOf dX3_inkOf_34 rfl ?_
      obtain ⟨rfl, rfl⟩ := ret_of e
      exact v_iret hc_X3_inkOf rfl dX3_inkOf_42 rfl rfl
theorem w_X3_inkOf (D : va_G) (l : Launch) (hl : l.stackTraces = false) (x0 : Nat) (x1 : Int32) (x2 : Int32) (h : AH) {r : Int32} {hF : AH} (e : f_X3_inkOf x0 x1 x2 h = some (r, hF)) : MetV D l yX3_inkOf (Cond.code yX3_inkOf cX3_inkOf 3 (Option.some .int)) 3 91 [.ref x0, .int x1, .int x2] h hF (oI r) :=
  met_ofF (by decide +kernel) hl (Nat.le_of_ble_eq_true rfl) rfl (v_X3_inkOf D l hl [.ref x0, .int x1, .int x2] h x0 x1 x2 h e)
/-! BlockPapersModel.mixes(III)I  -/
abbrev G_X3_mixes (D : va_G) (l : Launch) (as : List Value) (h0 hF : AH) (o : Out) : CT := (D, l, (yX3_mixes.cls, yX3_mixes, cX3_mixes, 5, (Option.some .int), 2, 70, []), as, h0, hF, o)
theorem hc_X3_mixes {D : va_G} {l : Launch} {as : List Value} {h0 hF : AH} {o : Out} : gC (G_X3_mixes D l as h0 hF o) = cX3_mixes := rfl
theorem ho_X3_mixes {D : va_G} {l : Launch} {as : List Value} {h0 hF : AH} {o : Out} : gO (G_X3_mixes D l as h0 hF o) = "BlockPapersModel" := rfl
theorem hp_X3_mixes {D : va_G} {l : Launch} {as : List Value} {h0 hF : AH} {o : Out} (pc : Nat) : ∀ z ∈ tableOf (gHd (G_X3_mixes D l as h0 hF o)), covers z pc = false := hpN
def f_X3_mixes_j126 (x0 : Nat) (x1 : Int32) (x2 : Int32) (x3 : Int32) (s0 : Nat) (s1 : Int32) (s2 : Int32) (h : AH) : Option (Int32 × AH) :=
  bd (stI h s0 s1 s2) fun h1 =>
  bd (gtR h1 2 x0 1) fun v2 =>
  bd (ldI h1 0 v2 (((31 : Int32) + ((4 : Int32) * x1)) + (2 : Int32))) fun v3 =>
  bd (stI h1 v2 (((31 : Int32) + ((4 : Int32) * x1)) + (2 : Int32)) (v3 - x3)) fun h4 =>
  gd (isC h4 2 x0) <|
  bd2 (f_X3_inkRow x0 x2 (1 : Int32) h4) fun r6 h7 =>
  gd (isC h7 2 x0) <|
  bd2 (f_X3_done x0 r6 h7) fun r10 h11 =>
  some (r10, h11)
theorem w_X3_mixes_j126 (D : va_G) (l : Launch) (hl : l.stackTraces = false) (as : List Value) (h0 : AH) {r : Int32} {hF : AH} (x0 : Nat) (x1 : Int32) (x2 : Int32) (x3 : Int32) (s0 : Nat) (s1 : Int32) (s2 : Int32) (h : AH) (e : f_X3_mixes_j126 x0 x1 x2 x3 s0 s1 s2 h = some (r, hF)) : V (G_X3_mixes D l as h0 hF (oI r)) h 126 [(0, .ref x0), (1, .int x1), (2, .int x2), (3, .int x3)] [.int s2, .int s1, .ref s0] := by
  unfold f_X3_mixes_j126 at e
  refine v_iast (pc' := 127) hc_X3_mixes dX3_mixes_126 rfl e (fun h1 _ e => ?_)
  refine v_aload_n (pc' := 128) hc_X3_mixes dX3_mixes_127 rfl rfl 0 rfl ?_
  refine v_gfR (pc' := 131) hc_X3_mixes ho_X3_mixes KX3 1 (Nat.le_of_ble_eq_true rfl) q2243 (Or.inl rfl) dX3_mixes_128 rfl e (fun v2 _ e => ?_)
  refine v_bipush (pc' := 133) (v := 31) hc_X3_mixes dX3_mixes_131 rfl rfl ?_
  refine v_iconst (pc' := 134) (v := 4) hc_X3_mixes dX3_mixes_133 rfl rfl ?_
  refine v_iload_n (pc' := 135) hc_X3_mixes dX3_mixes_134 rfl rfl 1 rfl ?_
  refine v_imul (pc' := 136) hc_X3_mixes dX3_mixes_135 rfl ?_
  refine v_iadd (pc' := 137) hc_X3_mixes dX3_mixes_136 rfl ?_
  refine v_iconst (pc' := 138) (v := 2) hc_X3_mixes dX3_mixes_137 rfl rfl ?_
  refine v_iadd (pc' := 139) hc_X3_mixes dX3_mixes_138 rfl ?_
  refine v_dup2 (pc' := 140) hc_X3_mixes dX3_mixes_139 rfl rfl rfl ?_
  refine v_iald (pc' := 141) hc_X3_mixes dX3_mixes_140 rfl e (fun v3 _ e => ?_)
  refine v_iload_n (pc' := 142) hc_X3_mixes dX3_mixes_141 rfl rfl 3 rfl ?_
  refine v_isub (pc' := 143) hc_X3_mixes dX3_mixes_142 rfl ?_
  refine v_iast (pc' := 144) hc_X3_mixes dX3_mixes_143 rfl e (fun h4 _ e => ?_)
  refine v_aload_n (pc' := 145) hc_X3_mixes dX3_mixes_144 rfl rfl 0 rfl ?_
  refine v_aload_n (pc' := 146) hc_X3_mixes dX3_mixes_145 rfl rfl 0 rfl ?_
  refine v_iload_n (pc' := 147) hc_X3_mixes dX3_mixes_146 rfl rfl 2 rfl ?_
  refine v_iconst (pc' := 148) (v := 1) hc_X3_mixes dX3_mixes_147 rfl rfl ?_
  obtain ⟨c5, e⟩ := gd_of e
  obtain ⟨r6, h7, e8, e⟩ := bd2_of e
  refine k_V (pc' := 151) (ci := 2) (n := 2) hc_X3_mixes ho_X3_mixes rfl c5 (w_X3_inkRow D l hl x0 x2 (1 : Int32) h4 e8) (wA_l q2391) q2393 (wA_l qs36) q85 q2394 hy_145 ⟨Nat.le_of_ble_eq_true rfl, Nat.le_of_ble_eq_true rfl⟩ rfl rfl (Nat.le_of_ble_eq_true rfl) dX3_mixes_148 rfl (kS ?_) kN
  obtain ⟨c9, e⟩ := gd_of e
  obtain ⟨r10, h11, e12, e⟩ := bd2_of e
  refine k_V (pc' := 154) (ci := 2) (n := 1) hc_X3_mixes ho_X3_mixes rfl c9 (w_X3_done D l hl x0 r6 h7 e12) (wA_l q2339) q2341 (wA_l qs27) q85 q2342 hy_121 ⟨Nat.le_of_ble_eq_true rfl, Nat.le_of_ble_eq_true rfl⟩ rfl rfl (Nat.le_of_ble_eq_true rfl) dX3_mixes_151 rfl (kS ?_) kN
  obtain ⟨rfl, rfl⟩ := ret_of e
  exact v_iret hc_X3_mixes rfl dX3_mixes_154 rfl rfl
def f_X3_mixes (x0 : Nat) (x1 : Int32) (x2 : Int32) (x3 : Int32) (h : AH) : Option (Int32 × AH) :=
  gd (isC h 2 x0) <|
  bd2 (f_X3_inkRow x0 x1 (0 : Int32) h) fun r2 h3 =>
  gd (isC h3 2 x0) <|
  bd2 (f_X3_inkRow x0 x2 (0 : Int32) h3) fun r6 h7 =>
  if r2 = r6 then (
    gd (isC h7 2 x0) <|
    bd2 (f_X3_inkRow x0 x1 (2 : Int32) h7) fun r10 h11 =>
    if x3 ≤ r10 then (
      gd (isC h11 2 x0) <|
      bd2 (f_X3_inkRow x0 x2 (2 : Int32) h11) fun r14 h15 =>
      bd (gtR h15 2 x0 1) fun v17 =>
      gd (isC h15 2 x0) <|
      bd2 (f_X3_inkRow x0 x2 (1 : Int32) h15) fun r19 h20 =>
      gd (isC h20 2 x0) <|
      bd2 (f_X3_inkRow x0 x2 (2 : Int32) h20) fun r23 h24 =>
      gd (isC h24 2 x0) <|
      bd2 (f_X3_inkRow x0 x1 (1 : Int32) h24) fun r27 h28 =>
      gd (decide (¬ (r14 + x3) = 0)) <|
      bd (stI h28 v17 (((31 : Int32) + ((4 : Int32) * x2)) + (1 : Int32)) (((r19 * r23) + (r27 * x3)) / (r14 + x3))) fun h31 =>
      bd (gtR h31 2 x0 1) fun v32 =>
      if (r14 + x3) ≤ (999 : Int32) then (
        f_X3_mixes_j126 x0 x1 x2 x3 v32 (((31 : Int32) + ((4 : Int32) * x2)) + (2 : Int32)) (r14 + x3) h31
      ) else (
        f_X3_mixes_j126 x0 x1 x2 x3 v32 (((31 : Int32) + ((4 : Int32) * x2)) + (2 : Int32)) (999 : Int32) h31
      )
    ) else (
      gd (isC h11 2 x0) <|
      bd2 (f_X3_inkRow x0 x1 (2 : Int32) h11) fun r34 h35 =>
      gd (isC h35 2 x0) <|
      bd2 (f_X3_refused x0 (3 : Int32) r34 h35) fun r38 h39 =>
      some (r38, h39)
    )
  ) else (
    gd (isC h7 2 x0) <|
    bd2 (f_X3_inkRow x0 x2 (0 : Int32) h7) fun r42 h43 =>
    gd (isC h43 2 x0) <|
    bd2 (f_X3_refused x0 (13 : Int32) r42 h43) fun r46 h47 =>
    some (r46, h47)
  )
theorem v_X3_mixes (D : va_G) (l : Launch) (hl : l.stackTraces = false) (as : List Value) (h0 : AH) {r : Int32} {hF : AH} (x0 : Nat) (x1 : Int32) (x2 : Int32) (x3 : Int32) (h : AH) (e : f_X3_mixes x0 x1 x2 x3 h = some (r, hF)) : V (G_X3_mixes D l as h0 hF (oI r)) h 0 [(0, .ref x0), (1, .int x1), (2, .int x2), (3, .int x3)] [] := by
  unfold f_X3_mixes at e
  refine v_aload_n (pc' := 1) hc_X3_mixes dX3_mixes_0 rfl rfl 0 rfl ?_
  refine v_iload_n (pc' := 2) hc_X3_mixes dX3_mixes_1 rfl rfl 1 rfl ?_
  refine v_iconst (pc' := 3) (v := 0) hc_X3_mixes dX3_mixes_2 rfl rfl ?_
  obtain ⟨c1, e⟩ := gd_of e
  obtain ⟨r2, h3, e4, e⟩ := bd2_of e
  refine k_V (pc' := 6) (ci := 2) (n := 2) hc_X3_mixes ho_X3_mixes rfl c1 (w_X3_inkRow D l hl x0 x1 (0 : Int32) h e4) (wA_l q2391) q2393 (wA_l qs36) q85 q2394 hy_145 ⟨Nat.le_of_ble_eq_true rfl, Nat.le_of_ble_eq_true rfl⟩ rfl rfl (Nat.le_of_ble_eq_true rfl) dX3_mixes_3 rfl (kS ?_) kN
  refine v_aload_n (pc' := 7) hc_X3_mixes dX3_mixes_6 rfl rfl 0 rfl ?_
  refine v_iload_n (pc' := 8) hc_X3_mixes dX3_mixes_7 rfl rfl 2 rfl ?_
  refine v_iconst (pc' := 9) (v := 0) hc_X3_mixes dX3_mixes_8 rfl rfl ?_
  obtain ⟨c5, e⟩ := gd_of e
  obtain ⟨r6, h7, e8, e⟩ := bd2_of e
  refine k_V (pc' := 12) (ci := 2) (n := 2) hc_X3_mixes ho_X3_mixes rfl c5 (w_X3_inkRow D l hl x0 x2 (0 : Int32) h3 e8) (wA_l q2391) q2393 (wA_l qs36) q85 q2394 hy_145 ⟨Nat.le_of_ble_eq_true rfl, Nat.le_of_ble_eq_true rfl⟩ rfl rfl (Nat.le_of_ble_eq_true rfl) dX3_mixes_9 rfl (kS ?_) kN
  refine v_icmp_eq (pt := 28) (pf := 15) hc_X3_mixes dX3_mixes_12 rfl rfl e (fun _ e => ?_) (fun _ e => ?_)
  · refine v_aload_n (pc' := 29) hc_X3_mixes dX3_mixes_28 rfl rfl 0 rfl ?_
    refine v_iload_n (pc' := 30) hc_X3_mixes dX3_mixes_29 rfl rfl 1 rfl ?_
    refine v_iconst (pc' := 31) (v := 2) hc_X3_mixes dX3_mixes_30 rfl rfl ?_
    obtain ⟨c9, e⟩ := gd_of e
    obtain ⟨r10, h11, e12, e⟩ := bd2_of e
    refine k_V (pc' := 34) (ci := 2) (n := 2) hc_X3_mixes ho_X3_mixes rfl c9 (w_X3_inkRow D l hl x0 x1 (2 : Int32) h7 e12) (wA_l q2391) q2393 (wA_l qs36) q85 q2394 hy_145 ⟨Nat.le_of_ble_eq_true rfl, Nat.le_of_ble_eq_true rfl⟩ rfl rfl (Nat.le_of_ble_eq_true rfl) dX3_mixes_31 rfl (kS ?_) kN
    refine v_iload_n (pc' := 35) hc_X3_mixes dX3_mixes_34 rfl rfl 3 rfl ?_
    refine v_icmp_ge (pt := 50) (pf := 38) hc_X3_mixes dX3_mixes_35 rfl rfl e (fun _ e => ?_) (fun _ e => ?_)
    · refine v_aload_n (pc' := 51) hc_X3_mixes dX3_mixes_50 rfl rfl 0 rfl ?_
      refine v_iload_n (pc' := 52) hc_X3_mixes dX3_mixes_51 rfl rfl 2 rfl ?_
      refine v_iconst (pc' := 53) (v := 2) hc_X3_mixes dX3_mixes_52 rfl rfl ?_
      obtain ⟨c13, e⟩ := gd_of e
      obtain ⟨r14, h15, e16, e⟩ := bd2_of e
      refine k_V (pc' := 56) (ci := 2) (n := 2) hc_X3_mixes ho_X3_mixes rfl c13 (w_X3_inkRow D l hl x0 x2 (2 : Int32) h11 e16) (wA_l q2391) q2393 (wA_l qs36) q85 q2394 hy_145 ⟨Nat.le_of_ble_eq_true rfl, Nat.le_of_ble_eq_true rfl⟩ rfl rfl (Nat.le_of_ble_eq_true rfl) dX3_mixes_53 rfl (kS ?_) kN
      refine v_iload_n (pc' := 57) hc_X3_mixes dX3_mixes_56 rfl rfl 3 rfl ?_
      refine v_iadd (pc' := 58) hc_X3_mixes dX3_mixes_57 rfl ?_
      refine v_istore (pc' := 60) (lv' := [(4, .int (r14 + x3)), (0, .ref x0), (1, .int x1), (2, .int x2), (3, .int x3)]) hc_X3_mixes dX3_mixes_58 rfl (Nat.le_of_ble_eq_true rfl) rfl ?_
      refine v_aload_n (pc' := 61) hc_X3_mixes dX3_mixes_60 rfl rfl 1 rfl ?_
      refine v_gfR (pc' := 64) hc_X3_mixes ho_X3_mixes KX3 1 (Nat.le_of_ble_eq_true rfl) q2243 (Or.inl rfl) dX3_mixes_61 rfl e (fun v17 _ e => ?_)
      refine v_bipush (pc' := 66) (v := 31) hc_X3_mixes dX3_mixes_64 rfl rfl ?_
      refine v_iconst (pc' := 67) (v := 4) hc_X3_mixes dX3_mixes_66 rfl rfl ?_
      refine v_iload_n (pc' := 68) hc_X3_mixes dX3_mixes_67 rfl rfl 3 rfl ?_
      refine v_imul (pc' := 69) hc_X3_mixes dX3_mixes_68 rfl ?_
      refine v_iadd (pc' := 70) hc_X3_mixes dX3_mixes_69 rfl ?_
      refine v_iconst (pc' := 71) (v := 1) hc_X3_mixes dX3_mixes_70 rfl rfl ?_
      refine v_iadd (pc' := 72) hc_X3_mixes dX3_mixes_71 rfl ?_
      refine v_aload_n (pc' := 73) hc_X3_mixes dX3_mixes_72 rfl rfl 1 rfl ?_
      refine v_iload_n (pc' := 74) hc_X3_mixes dX3_mixes_73 rfl rfl 3 rfl ?_
      refine v_iconst (pc' := 75) (v := 1) hc_X3_mixes dX3_mixes_74 rfl rfl ?_
      obtain ⟨c18, e⟩ := gd_of e
      obtain ⟨r19, h20, e21, e⟩ := bd2_of e
      refine k_V (pc' := 78) (ci := 2) (n := 2) hc_X3_mixes ho_X3_mixes rfl c18 (w_X3_inkRow D l hl x0 x2 (1 : Int32) h15 e21) (wA_l q2391) q2393 (wA_l qs36) q85 q2394 hy_145 ⟨Nat.le_of_ble_eq_true rfl, Nat.le_of_ble_eq_true rfl⟩ rfl rfl (Nat.le_of_ble_eq_true rfl) dX3_mixes_75 rfl (kS ?_) kN
      refine v_aload_n (pc' := 79) hc_X3_mixes dX3_mixes_78 rfl rfl 1 rfl ?_
      refine v_iload_n (pc' := 80) hc_X3_mixes dX3_mixes_79 rfl rfl 3 rfl ?_
      refine v_iconst (pc' := 81) (v := 2) hc_X3_mixes dX3_mixes_80 rfl rfl ?_
      obtain ⟨c22, e⟩ := gd_of e
      obtain ⟨r23, h24, e25, e⟩ := bd2_of e
      refine k_V (pc' := 84) (ci := 2) (n := 2) hc_X3_mixes ho_X3_mixes rfl c22 (w_X3_inkRow D l hl x0 x2 (2 : Int32) h20 e25) (wA_l q2391) q2393 (wA_l qs36) q85 q2394 hy_145 ⟨Nat.le_of_ble_eq_true rfl, Nat.le_of_ble_eq_true rfl⟩ rfl rfl (Nat.le_of_ble_eq_true rfl) dX3_mixes_81 rfl (kS ?_) kN
      refine v_imul (pc' := 85) hc_X3_mixes dX3_mixes_84 rfl ?_
      refine v_aload_n (pc' := 86) hc_X3_mixes dX3_mixes_85 rfl rfl 1 rfl ?_
      refine v_iload_n (pc' := 87) hc_X3_mixes dX3_mixes_86 rfl rfl 2 rfl ?_
      refine v_iconst (pc' := 88) (v := 1) hc_X3_mixes dX3_mixes_87 rfl rfl ?_
      obtain ⟨c26, e⟩ := gd_of e
      obtain ⟨r27, h28, e29, e⟩ := bd2_of e
      refine k_V (pc' := 91) (ci := 2) (n := 2) hc_X3_mixes ho_X3_mixes rfl c26 (w_X3_inkRow D l hl x0 x1 (1 : Int32) h24 e29) (wA_l q2391) q2393 (wA_l qs36) q85 q2394 hy_145 ⟨Nat.le_of_ble_eq_true rfl, Nat.le_of_ble_eq_true rfl⟩ rfl rfl (Nat.le_of_ble_eq_true rfl) dX3_mixes_88 rfl (kS ?_) kN
      refine v_iload_n (pc' := 92) hc_X3_mixes dX3_mixes_91 rfl rfl 4 rfl ?_
      refine v_imul (pc' := 93) hc_X3_mixes dX3_mixes_92 rfl ?_
      refine v_iadd (pc' := 94) hc_X3_mixes dX3_mixes_93 rfl ?_
      refine v_iload (pc' := 96) hc_X3_mixes dX3_mixes_94 rfl 0 rfl ?_
      obtain ⟨c30, e⟩ := gd_of e
      refine v_idiv (pc' := 97) hc_X3_mixes dX3_mixes_96 rfl (of_decide_eq_true c30) ?_
      refine v_iast (pc' := 98) hc_X3_mixes dX3_mixes_97 rfl e (fun h31 _ e => ?_)
      refine v_aload_n (pc' := 99) hc_X3_mixes dX3_mixes_98 rfl rfl 1 rfl ?_
      refine v_gfR (pc' := 102) hc_X3_mixes ho_X3_mixes KX3 1 (Nat.le_of_ble_eq_true rfl) q2243 (Or.inl rfl) dX3_mixes_99 rfl e (fun v32 _ e => ?_)
      refine v_bipush (pc' := 104) (v := 31) hc_X3_mixes dX3_mixes_102 rfl rfl ?_
      refine v_iconst (pc' := 105) (v := 4) hc_X3_mixes dX3_mixes_104 rfl rfl ?_
      refine v_iload_n (pc' := 106) hc_X3_mixes dX3_mixes_105 rfl rfl 3 rfl ?_
      refine v_imul (pc' := 107) hc_X3_mixes dX3_mixes_106 rfl ?_
      refine v_iadd (pc' := 108) hc_X3_mixes dX3_mixes_107 rfl ?_
      refine v_iconst (pc' := 109) (v := 2) hc_X3_mixes dX3_mixes_108 rfl rfl ?_
      refine v_iadd (pc' := 110) hc_X3_mixes dX3_mixes_109 rfl ?_
      refine v_iload (pc' := 112) hc_X3_mixes dX3_mixes_110 rfl 0 rfl ?_
      refine v_sipush (pc' := 115) (v := 999) hc_X3_mixes dX3_mixes_112 rfl rfl ?_
      refine v_icmp_le (pt := 124) (pf := 118) hc_X3_mixes dX3_mixes_115 rfl rfl e (fun _ e => ?_) (fun _ e => ?_)
      · refine v_iload (pc' := 126) hc_X3_mixes dX3_mixes_124 rfl 0 rfl ?_
        refine v_pick [1, 2, 3, 4] rfl ?_
        exact w_X3_mixes_j126 D l hl as h0 x0 x1 x2 x3 v32 (((31 : Int32) + ((4 : Int32) * x2)) + (2 : Int32)) (r14 + x3) h31 e
      · refine v_sipush (pc' := 121) (v := 999) hc_X3_mixes dX3_mixes_118 rfl rfl ?_
        refine v_goto (pt := 126) hc_X3_mixes dX3_mixes_121 rfl ?_
        refine v_pick [1, 2, 3, 4] rfl ?_
        exact w_X3_mixes_j126 D l hl as h0 x0 x1 x2 x3 v32 (((31 : Int32) + ((4 : Int32) * x2)) + (2 : Int32)) (999 : Int32) h31 e
    · refine v_aload_n (pc' := 39) hc_X3_mixes dX3_mixes_38 rfl rfl 0 rfl ?_
      refine v_iconst (pc' := 40) (v := 3) hc_X3_mixes dX3_mixes_39 rfl rfl ?_
      refine v_aload_n (pc' := 41) hc_X3_mixes dX3_mixes_40 rfl rfl 0 rfl ?_
      refine v_iload_n (pc' := 42) hc_X3_mixes dX3_mixes_41 rfl rfl 1 rfl ?_
      refine v_iconst (pc' := 43) (v := 2) hc_X3_mixes dX3_mixes_42 rfl rfl ?_
      obtain ⟨c33, e⟩ := gd_of e
      obtain ⟨r34, h35, e36, e⟩ := bd2_of e
      refine k_V (pc' := 46) (ci := 2) (n := 2) hc_X3_mixes ho_X3_mixes rfl c33 (w_X3_inkRow D l hl x0 x1 (2 : Int32) h11 e36) (wA_l q2391) q2393 (wA_l qs36) q85 q2394 hy_145 ⟨Nat.le_of_ble_eq_true rfl, Nat.le_of_ble_eq_true rfl⟩ rfl rfl (Nat.le_of_ble_eq_true rfl) dX3_mixes_43 rfl (kS ?_) kN
      obtain ⟨c37, e⟩ := gd_of e
      obtain ⟨r38, h39, e40, e⟩ := bd2_of e
      refine k_V (pc' := 49) (ci := 2) (n := 2) hc_X3_mixes ho_X3_mixes rfl c37 (w_X3_refused D l hl x0 (3 : Int32) r34 h35 e40) (wA_l q2335) q2337 (wA_l qs26) q85 q2338 hy_120 ⟨Nat.le_of_ble_eq_true rfl, Nat.le_of_ble_eq_true rfl⟩ rfl rfl (Nat.le_of_ble_eq_true rfl) dX3_mixes_46 rfl (kS ?_) kN
      obtain ⟨rfl, rfl⟩ := ret_of e
      exact v_iret hc_X3_mixes rfl dX3_mixes_49 rfl rfl
  · refine v_aload_n (pc' := 16) hc_X3_mixes dX3_mixes_15 rfl rfl 0 rfl ?_
    refine v_bipush (pc' := 18) (v := 13) hc_X3_mixes dX3_mixes_16 rfl rfl ?_
    refine v_aload_n (pc' := 19) hc_X3_mixes dX3_mixes_18 rfl rfl 0 rfl ?_
    refine v_iload_n (pc' := 20) hc_X3_mixes dX3_mixes_19 rfl rfl 2 rfl ?_
    refine v_iconst (pc' := 21) (v := 0) hc_X3_mixes dX3_mixes_20 rfl rfl ?_
    obtain ⟨c41, e⟩ := gd_of e
    obtain ⟨r42, h43, e44, e⟩ := bd2_of e
    refine k_V (pc' := 24) (ci := 2) (n := 2) hc_X3_mixes ho_X3_mixes rfl c41 (w_X3_inkRow D l hl x0 x2 (0 : Int32) h7 e44) (wA_l q2391) q2393 (wA_l qs36) q85 q2394 hy_145 ⟨Nat.le_of_ble_eq_true rfl, Nat.le_of_ble_eq_true rfl⟩ rfl rfl (Nat.le_of_ble_eq_true rfl) dX3_mixes_21 rfl (kS ?_) kN
    obtain ⟨c45, e⟩ := gd_of e
    obtain ⟨r46, h47, e48, e⟩ := bd2_of e
    refine k_V (pc' := 27) (ci := 2) (n := 2) hc_X3_mixes ho_X3_mixes rfl c45 (w_X3_refused D l hl x0 (13 : Int32) r42 h43 e48) (wA_l q2335) q2337 (wA_l qs26) q85 q2338 hy_120 ⟨Nat.le_of_ble_eq_true rfl, Nat.le_of_ble_eq_true rfl⟩ rfl rfl (Nat.le_of_ble_eq_true rfl) dX3_mixes_24 rfl (kS ?_) kN
    obtain ⟨rfl, rfl⟩ := ret_of e
    exact v_iret hc_X3_mixes rfl dX3_mixes_27 rfl rfl
theorem w_X3_mixes (D : va_G) (l : Launch) (hl : l.stackTraces = false) (x0 : Nat) (x1 : Int32) (x2 : Int32) (x3 : Int32) (h : AH) {r : Int32} {hF : AH} (e : f_X3_mixes x0 x1 x2 x3 h = some (r, hF)) : MetV D l yX3_mixes (Cond.code yX3_mixes cX3_mixes 5 (Option.some .int)) 2 70 [.ref x0, .int x1, .int x2, .int x3] h hF (oI r) :=
  met_ofF (by decide +kernel) hl (Nat.le_of_ble_eq_true rfl) rfl (v_X3_mixes D l hl [.ref x0, .int x1, .int x2, .int x3] h x0 x1 x2 x3 h e)
/-! BlockPapersModel.mix(III)I  -/
abbrev G_X3_mix (D : va_G) (l : Launch) (as : List Value) (h0 hF : AH) (o : Out) : CT := (D, l, (yX3_mix.cls, yX3_mix, cX3_mix, 4, (Option.some .int), 3, 94, []), as, h0, hF, o)
theorem hc_X3_mix {D : va_G} {l : Launch} {as : List Value} {h0 hF : AH} {o : Out} : gC (G_X3_mix D l as h0 hF o) = cX3_mix := rfl
theorem ho_X3_mix {D : va_G} {l : Launch} {as : List Value} {h0 hF : AH} {o : Out} : gO (G_X3_mix D l as h0 hF o) = "BlockPapersModel" := rfl
theorem hp_X3_mix {D : va_G} {l : Launch} {as : List Value} {h0 hF : AH} {o : Out} (pc : Nat) : ∀ z ∈ tableOf (gHd (G_X3_mix D l as h0 hF o)), covers z pc = false := hpN
def f_X3_mix (x0 : Nat) (x1 : Int32) (x2 : Int32) (x3 : Int32) (h : AH) : Option (Int32 × AH) :=
  bd (stF h 2 x0 0 (.int (0 : Int32))) fun h1 =>
  gd (isC h1 2 x0) <|
  bd2 (f_X3_remembers x0 h1) fun r3 h4 =>
  gd (isC h4 2 x0) <|
  bd2 (f_X3_isInk x0 x1 h4) fun r7 h8 =>
  if r7 = 0 then (
    gd (isC h8 2 x0) <|
    bd2 (f_X3_fails x0 (1 : Int32) h8) fun r11 h12 =>
    some (r11, h12)
  ) else (
    gd (isC h8 2 x0) <|
    bd2 (f_X3_isInk x0 x2 h8) fun r15 h16 =>
    if r15 = 0 then (
      gd (isC h16 2 x0) <|
      bd2 (f_X3_fails x0 (1 : Int32) h16) fun r19 h20 =>
      some (r19, h20)
    ) else (
      if x1 = x2 then (
        gd (isC h16 2 x0) <|
        bd2 (f_X3_fails x0 (2 : Int32) h16) fun r23 h24 =>
        some (r23, h24)
      ) else (
        bd2 (f_X3_in x3 (1 : Int32) (999 : Int32) h16) fun r26 h27 =>
        if r26 = 0 then (
          gd (isC h27 2 x0) <|
          bd2 (f_X3_fails x0 (2 : Int32) h27) fun r30 h31 =>
          some (r30, h31)
        ) else (
          gd (isC h27 2 x0) <|
          bd2 (f_X3_mixes x0 x1 x2 x3 h27) fun r34 h35 =>
          gd (isC h35 2 x0) <|
          bd2 (f_X3_ends x0 r34 (3 : Int32) h35) fun r38 h39 =>
          some (r38, h39)
        )
      )
    )
  )
theorem v_X3_mix (D : va_G) (l : Launch) (hl : l.stackTraces = false) (as : List Value) (h0 : AH) {r : Int32} {hF : AH} (x0 : Nat) (x1 : Int32) (x2 : Int32) (x3 : Int32) (h : AH) (e : f_X3_mix x0 x1 x2 x3 h = some (r, hF)) : V (G_X3_mix D l as h0 hF (oI r)) h 0 [(0, .ref x0), (1, .int x1), (2, .int x2), (3, .int x3)] [] := by
  unfold f_X3_mix at e
  refine v_aload_n (pc' := 1) hc_X3_mix dX3_mix_0 rfl rfl 0 rfl ?_
  refine v_iconst (pc' := 2) (v := 0) hc_X3_mix dX3_mix_1 rfl rfl ?_
  refine v_pf (pc' := 5) hc_X3_mix ho_X3_mix KX3 0 (Nat.le_of_ble_eq_true rfl) q2242 (Or.inl rfl) rfl dX3_mix_2 rfl rfl rfl e (fun h1 _ e => ?_)
  refine v_aload_n (pc' := 6) hc_X3_mix dX3_mix_5 rfl rfl 0 rfl ?_
  obtain ⟨c2, e⟩ := gd_of e
  obtain ⟨r3, h4, e5, e⟩ := bd2_of e
  refine k_V (pc' := 9) (ci := 2) (n := 0) hc_X3_mix ho_X3_mix rfl c2 (w_X3_remembers D l hl x0 h1 e5) (wA_l q2324) q2326 (wA_l qs24) q85 q2327 hy_117 ⟨Nat.le_of_ble_eq_true rfl, Nat.le_of_ble_eq_true rfl⟩ rfl rfl (Nat.le_of_ble_eq_true rfl) dX3_mix_6 rfl (kU ?_) kN
  refine v_aload_n (pc' := 10) hc_X3_mix dX3_mix_9 rfl rfl 0 rfl ?_
  refine v_iload_n (pc' := 11) hc_X3_mix dX3_mix_10 rfl rfl 1 rfl ?_
  obtain ⟨c6, e⟩ := gd_of e
  obtain ⟨r7, h8, e9, e⟩ := bd2_of e
  refine k_V (pc' := 14) (ci := 2) (n := 1) hc_X3_mix ho_X3_mix rfl c6 (w_X3_isInk D l hl x0 x1 h4 e9) (wA_l q2387) q2389 (wA_l qs35) q85 q2390 hy_144 ⟨Nat.le_of_ble_eq_true rfl, Nat.le_of_ble_eq_true rfl⟩ rfl rfl (Nat.le_of_ble_eq_true rfl) dX3_mix_11 rfl (kS ?_) kN
  refine v_if_eq (pt := 25) (pf := 17) hc_X3_mix dX3_mix_14 rfl rfl e (fun _ e => ?_) (fun _ e => ?_)
  · refine v_aload_n (pc' := 26) hc_X3_mix dX3_mix_25 rfl rfl 0 rfl ?_
    refine v_iconst (pc' := 27) (v := 1) hc_X3_mix dX3_mix_26 rfl rfl ?_
    obtain ⟨c10, e⟩ := gd_of e
    obtain ⟨r11, h12, e13, e⟩ := bd2_of e
    refine k_V (pc' := 30) (ci := 2) (n := 1) hc_X3_mix ho_X3_mix rfl c10 (w_X3_fails D l hl x0 (1 : Int32) h8 e13) (wA_l q2351) q2353 (wA_l qs30) q85 q2354 hy_119 ⟨Nat.le_of_ble_eq_true rfl, Nat.le_of_ble_eq_true rfl⟩ rfl rfl (Nat.le_of_ble_eq_true rfl) dX3_mix_27 rfl (kS ?_) kN
    obtain ⟨rfl, rfl⟩ := ret_of e
    exact v_iret hc_X3_mix rfl dX3_mix_30 rfl rfl
  · refine v_aload_n (pc' := 18) hc_X3_mix dX3_mix_17 rfl rfl 0 rfl ?_
    refine v_iload_n (pc' := 19) hc_X3_mix dX3_mix_18 rfl rfl 2 rfl ?_
    obtain ⟨c14, e⟩ := gd_of e
    obtain ⟨r15, h16, e17, e⟩ := bd2_of e
    refine k_V (pc' := 22) (ci := 2) (n := 1) hc_X3_mix ho_X3_mix rfl c14 (w_X3_isInk D l hl x0 x2 h8 e17) (wA_l q2387) q2389 (wA_l qs35) q85 q2390 hy_144 ⟨Nat.le_of_ble_eq_true rfl, Nat.le_of_ble_eq_true rfl⟩ rfl rfl (Nat.le_of_ble_eq_true rfl) dX3_mix_19 rfl (kS ?_) kN
    refine v_if_ne (pt := 31) (pf := 25) hc_X3_mix dX3_mix_22 rfl rfl e (fun _ e => ?_) (fun _ e => ?_)
    · refine v_aload_n (pc' := 26) hc_X3_mix dX3_mix_25 rfl rfl 0 rfl ?_
      refine v_iconst (pc' := 27) (v := 1) hc_X3_mix dX3_mix_26 rfl rfl ?_
      obtain ⟨c18, e⟩ := gd_of e
      obtain ⟨r19, h20, e21, e⟩ := bd2_of e
      refine k_V (pc' := 30) (ci := 2) (n := 1) hc_X3_mix ho_X3_mix rfl c18 (w_X3_fails D l hl x0 (1 : Int32) h16 e21) (wA_l q2351) q2353 (wA_l qs30) q85 q2354 hy_119 ⟨Nat.le_of_ble_eq_true rfl, Nat.le_of_ble_eq_true rfl⟩ rfl rfl (Nat.le_of_ble_eq_true rfl) dX3_mix_27 rfl (kS ?_) kN
      obtain ⟨rfl, rfl⟩ := ret_of e
      exact v_iret hc_X3_mix rfl dX3_mix_30 rfl rfl
    · refine v_iload_n (pc' := 32) hc_X3_mix dX3_mix_31 rfl rfl 1 rfl ?_
      refine v_iload_n (pc' := 33) hc_X3_mix dX3_mix_32 rfl rfl 2 rfl ?_
      refine v_icmp_eq (pt := 47) (pf := 36) hc_X3_mix dX3_mix_33 rfl rfl e (fun _ e => ?_) (fun _ e => ?_)
      · refine v_aload_n (pc' := 48) hc_X3_mix dX3_mix_47 rfl rfl 0 rfl ?_
        refine v_iconst (pc' := 49) (v := 2) hc_X3_mix dX3_mix_48 rfl rfl ?_
        obtain ⟨c22, e⟩ := gd_of e
        obtain ⟨r23, h24, e25, e⟩ := bd2_of e
        refine k_V (pc' := 52) (ci := 2) (n := 1) hc_X3_mix ho_X3_mix rfl c22 (w_X3_fails D l hl x0 (2 : Int32) h16 e25) (wA_l q2351) q2353 (wA_l qs30) q85 q2354 hy_119 ⟨Nat.le_of_ble_eq_true rfl, Nat.le_of_ble_eq_true rfl⟩ rfl rfl (Nat.le_of_ble_eq_true rfl) dX3_mix_49 rfl (kS ?_) kN
        obtain ⟨rfl, rfl⟩ := ret_of e
        exact v_iret hc_X3_mix rfl dX3_mix_52 rfl rfl
      · refine v_iload_n (pc' := 37) hc_X3_mix dX3_mix_36 rfl rfl 3 rfl ?_
        refine v_iconst (pc' := 38) (v := 1) hc_X3_mix dX3_mix_37 rfl rfl ?_
        refine v_sipush (pc' := 41) (v := 999) hc_X3_mix dX3_mix_38 rfl rfl ?_
        obtain ⟨r26, h27, e28, e⟩ := bd2_of e
        refine k_S (pc' := 44) (n := 3) hc_X3_mix ho_X3_mix (w_X3_in D l hl x3 (1 : Int32) (999 : Int32) h16 e28) (wA_l q2328) q2329 q85 q2330 hy_118 ⟨Nat.le_of_ble_eq_true rfl, Nat.le_of_ble_eq_true rfl⟩ rfl rfl (Nat.le_of_ble_eq_true rfl) dX3_mix_41 rfl (kS ?_) kN
        refine v_if_ne (pt := 53) (pf := 47) hc_X3_mix dX3_mix_44 rfl rfl e (fun _ e => ?_) (fun _ e => ?_)
        · refine v_aload_n (pc' := 48) hc_X3_mix dX3_mix_47 rfl rfl 0 rfl ?_
          refine v_iconst (pc' := 49) (v := 2) hc_X3_mix dX3_mix_48 rfl rfl ?_
          obtain ⟨c29, e⟩ := gd_of e
          obtain ⟨r30, h31, e32, e⟩ := bd2_of e
          refine k_V (pc' := 52) (ci := 2) (n := 1) hc_X3_mix ho_X3_mix rfl c29 (w_X3_fails D l hl x0 (2 : Int32) h27 e32) (wA_l q2351) q2353 (wA_l qs30) q85 q2354 hy_119 ⟨Nat.le_of_ble_eq_true rfl, Nat.le_of_ble_eq_true rfl⟩ rfl rfl (Nat.le_of_ble_eq_true rfl) dX3_mix_49 rfl (kS ?_) kN
          obtain ⟨rfl, rfl⟩ := ret_of e
          exact v_iret hc_X3_mix rfl dX3_mix_52 rfl rfl
        · refine v_aload_n (pc' := 54) hc_X3_mix dX3_mix_53 rfl rfl 0 rfl ?_
          refine v_aload_n (pc' := 55) hc_X3_mix dX3_mix_54 rfl rfl 0 rfl ?_
          refine v_iload_n (pc' := 56) hc_X3_mix dX3_mix_55 rfl rfl 1 rfl ?_
          refine v_iload_n (pc' := 57) hc_X3_mix dX3_mix_56 rfl rfl 2 rfl ?_
          refine v_iload_n (pc' := 58) hc_X3_mix dX3_mix_57 rfl rfl 3 rfl ?_
          obtain ⟨c33, e⟩ := gd_of e
          obtain ⟨r34, h35, e36, e⟩ := bd2_of e
          refine k_V (pc' := 61) (ci := 2) (n := 3) hc_X3_mix ho_X3_mix rfl c33 (w_X3_mixes D l hl x0 x1 x2 x3 h27 e36) (wA_l q2399) q2401 (wA_l qs37) q85 q2402 hy_149 ⟨Nat.le_of_ble_eq_true rfl, Nat.le_of_ble_eq_true rfl⟩ rfl rfl (Nat.le_of_ble_eq_true rfl) dX3_mix_58 rfl (kS ?_) kN
          refine v_iconst (pc' := 62) (v := 3) hc_X3_mix dX3_mix_61 rfl rfl ?_
          obtain ⟨c37, e⟩ := gd_of e
          obtain ⟨r38, h39, e40, e⟩ := bd2_of e
          refine k_V (pc' := 65) (ci := 2) (n := 2) hc_X3_mix ho_X3_mix rfl c37 (w_X3_ends D l hl x0 r34 (3 : Int32) h35 e40) (wA_l q2343) q2345 (wA_l qs28) q85 q2346 hy_124 ⟨Nat.le_of_ble_eq_true rfl, Nat.le_of_ble_eq_true rfl⟩ rfl rfl (Nat.le_of_ble_eq_true rfl) dX3_mix_62 rfl (kS ?_) kN
          obtain ⟨rfl, rfl⟩ := ret_of e
          exact v_iret hc_X3_mix rfl dX3_mix_65 rfl rfl
theorem w_X3_mix (D : va_G) (l : Launch) (hl : l.stackTraces = false) (x0 : Nat) (x1 : Int32) (x2 : Int32) (x3 : Int32) (h : AH) {r : Int32} {hF : AH} (e : f_X3_mix x0 x1 x2 x3 h = some (r, hF)) : MetV D l yX3_mix (Cond.code yX3_mix cX3_mix 4 (Option.some .int)) 3 94 [.ref x0, .int x1, .int x2, .int x3] h hF (oI r) :=
  met_ofF (by decide +kernel) hl (Nat.le_of_ble_eq_true rfl) rfl (v_X3_mix D l hl [.ref x0, .int x1, .int x2, .int x3] h x0 x1 x2 x3 h e)
/-! BlockPapersModel.prints(III)I  -/
abbrev G_X3_prints (D : va_G) (l : Launch) (as : List Value) (h0 hF : AH) (o : Out) : CT := (D, l, (yX3_prints.cls, yX3_prints, cX3_prints, 7, (Option.some .int), 2, 70, []), as, h0, hF, o)
theorem hc_X3_prints {D : va_G} {l : Launch} {as : List Value} {h0 hF : AH} {o : Out} : gC (G_X3_prints D l as h0 hF o) = cX3_prints := rfl
theorem ho_X3_prints {D : va_G} {l : Launch} {as : List Value} {h0 hF : AH} {o : Out} : gO (G_X3_prints D l as h0 hF o) = "BlockPapersModel" := rfl
theorem hp_X3_prints {D : va_G} {l : Launch} {as : List Value} {h0 hF : AH} {o : Out} (pc : Nat) : ∀ z ∈ tableOf (gHd (G_X3_prints D l as h0 hF o)), covers z pc = false := hpN
def f_X3_prints_j221 (x0 : Nat) (x1 : Int32) (x3 : Int32) (x6 : Int32) (s0 : Nat) (s1 : Int32) (s2 : Int32) (h : AH) : Option (Int32 × AH) :=
  bd (stI h s0 s1 s2) fun h1 =>
  bd (gtR h1 2 x0 1) fun v2 =>
  bd (ldI h1 0 v2 (((7 : Int32) + ((4 : Int32) * x1)) + (3 : Int32))) fun v3 =>
  bd (stI h1 v2 (((7 : Int32) + ((4 : Int32) * x1)) + (3 : Int32)) (v3 + (1 : Int32))) fun h4 =>
  bd (gtR h4 2 x0 1) fun v5 =>
  bd (ldI h4 0 v5 (4 : Int32)) fun v6 =>
  bd (stI h4 v5 (4 : Int32) (v6 + x3)) fun h7 =>
  bd (gtR h7 2 x0 1) fun v8 =>
  bd (stI h7 v8 (2 : Int32) (x6 + (1 : Int32))) fun h9 =>
  gd (isC h9 2 x0) <|
  bd2 (f_X3_done x0 x6 h9) fun r11 h12 =>
  some (r11, h12)
theorem w_X3_prints_j221 (D : va_G) (l : Launch) (hl : l.stackTraces = false) (as : List Value) (h0 : AH) {r : Int32} {hF : AH} (x0 : Nat) (x1 : Int32) (x3 : Int32) (x6 : Int32) (s0 : Nat) (s1 : Int32) (s2 : Int32) (h : AH) (e : f_X3_prints_j221 x0 x1 x3 x6 s0 s1 s2 h = some (r, hF)) : V (G_X3_prints D l as h0 hF (oI r)) h 221 [(0, .ref x0), (1, .int x1), (3, .int x3), (6, .int x6)] [.int s2, .int s1, .ref s0] := by
  unfold f_X3_prints_j221 at e
  refine v_iast (pc' := 222) hc_X3_prints dX3_prints_221 rfl e (fun h1 _ e => ?_)
  refine v_aload_n (pc' := 223) hc_X3_prints dX3_prints_222 rfl rfl 0 rfl ?_
  refine v_gfR (pc' := 226) hc_X3_prints ho_X3_prints KX3 1 (Nat.le_of_ble_eq_true rfl) q2243 (Or.inl rfl) dX3_prints_223 rfl e (fun v2 _ e => ?_)
  refine v_bipush (pc' := 228) (v := 7) hc_X3_prints dX3_prints_226 rfl rfl ?_
  refine v_iconst (pc' := 229) (v := 4) hc_X3_prints dX3_prints_228 rfl rfl ?_
  refine v_iload_n (pc' := 230) hc_X3_prints dX3_prints_229 rfl rfl 1 rfl ?_
  refine v_imul (pc' := 231) hc_X3_prints dX3_prints_230 rfl ?_
  refine v_iadd (pc' := 232) hc_X3_prints dX3_prints_231 rfl ?_
  refine v_iconst (pc' := 233) (v := 3) hc_X3_prints dX3_prints_232 rfl rfl ?_
  refine v_iadd (pc' := 234) hc_X3_prints dX3_prints_233 rfl ?_
  refine v_dup2 (pc' := 235) hc_X3_prints dX3_prints_234 rfl rfl rfl ?_
  refine v_iald (pc' := 236) hc_X3_prints dX3_prints_235 rfl e (fun v3 _ e => ?_)
  refine v_iconst (pc' := 237) (v := 1) hc_X3_prints dX3_prints_236 rfl rfl ?_
  refine v_iadd (pc' := 238) hc_X3_prints dX3_prints_237 rfl ?_
  refine v_iast (pc' := 239) hc_X3_prints dX3_prints_238 rfl e (fun h4 _ e => ?_)
  refine v_aload_n (pc' := 240) hc_X3_prints dX3_prints_239 rfl rfl 0 rfl ?_
  refine v_gfR (pc' := 243) hc_X3_prints ho_X3_prints KX3 1 (Nat.le_of_ble_eq_true rfl) q2243 (Or.inl rfl) dX3_prints_240 rfl e (fun v5 _ e => ?_)
  refine v_iconst (pc' := 244) (v := 4) hc_X3_prints dX3_prints_243 rfl rfl ?_
  refine v_dup2 (pc' := 245) hc_X3_prints dX3_prints_244 rfl rfl rfl ?_
  refine v_iald (pc' := 246) hc_X3_prints dX3_prints_245 rfl e (fun v6 _ e => ?_)
  refine v_iload_n (pc' := 247) hc_X3_prints dX3_prints_246 rfl rfl 2 rfl ?_
  refine v_iadd (pc' := 248) hc_X3_prints dX3_prints_247 rfl ?_
  refine v_iast (pc' := 249) hc_X3_prints dX3_prints_248 rfl e (fun h7 _ e => ?_)
  refine v_aload_n (pc' := 250) hc_X3_prints dX3_prints_249 rfl rfl 0 rfl ?_
  refine v_gfR (pc' := 253) hc_X3_prints ho_X3_prints KX3 1 (Nat.le_of_ble_eq_true rfl) q2243 (Or.inl rfl) dX3_prints_250 rfl e (fun v8 _ e => ?_)
  refine v_iconst (pc' := 254) (v := 2) hc_X3_prints dX3_prints_253 rfl rfl ?_
  refine v_iload (pc' := 256) hc_X3_prints dX3_prints_254 rfl 3 rfl ?_
  refine v_iconst (pc' := 257) (v := 1) hc_X3_prints dX3_prints_256 rfl rfl ?_
  refine v_iadd (pc' := 258) hc_X3_prints dX3_prints_257 rfl ?_
  refine v_iast (pc' := 259) hc_X3_prints dX3_prints_258 rfl e (fun h9 _ e => ?_)
  refine v_aload_n (pc' := 260) hc_X3_prints dX3_prints_259 rfl rfl 0 rfl ?_
  refine v_iload (pc' := 262) hc_X3_prints dX3_prints_260 rfl 3 rfl ?_
  obtain ⟨c10, e⟩ := gd_of e
  obtain ⟨r11, h12, e13, e⟩ := bd2_of e
  refine k_V (pc' := 265) (ci := 2) (n := 1) hc_X3_prints ho_X3_prints rfl c10 (w_X3_done D l hl x0 x6 h9 e13) (wA_l q2339) q2341 (wA_l qs27) q85 q2342 hy_121 ⟨Nat.le_of_ble_eq_true rfl, Nat.le_of_ble_eq_true rfl⟩ rfl rfl (Nat.le_of_ble_eq_true rfl) dX3_prints_262 rfl (kS ?_) kN
  obtain ⟨rfl, rfl⟩ := ret_of e
  exact v_iret hc_X3_prints rfl dX3_prints_265 rfl rfl
def f_X3_prints (x0 : Nat) (x1 : Int32) (x2 : Int32) (x3 : Int32) (h : AH) : Option (Int32 × AH) :=
  gd (isC h 2 x0) <|
  bd2 (f_X3_blockRow x0 x1 (2 : Int32) h) fun r2 h3 =>
  if r2 = (100 : Int32) then (
    gd (isC h3 2 x0) <|
    bd2 (f_X3_refused x0 (2 : Int32) (100 : Int32) h3) fun r6 h7 =>
    some (r6, h7)
  ) else (
    gd (isC h3 2 x0) <|
    bd2 (f_X3_inkRow x0 x2 (2 : Int32) h3) fun r10 h11 =>
    if ((1 : Int32) + (x3 / (20 : Int32))) ≤ r10 then (
      bd (gtR h11 2 x0 1) fun v13 =>
      bd (ldI h11 0 v13 (2 : Int32)) fun v14 =>
      if v14 = (24 : Int32) then (
        gd (isC h11 2 x0) <|
        bd2 (f_X3_refused x0 (1 : Int32) (24 : Int32) h11) fun r16 h17 =>
        some (r16, h17)
      ) else (
        bd (gtR h11 2 x0 1) fun v19 =>
        bd (stI h11 v19 ((79 : Int32) + ((6 : Int32) * v14)) x1) fun h20 =>
        bd (gtR h20 2 x0 1) fun v21 =>
        bd (stI h20 v21 (((79 : Int32) + ((6 : Int32) * v14)) + (1 : Int32)) x2) fun h22 =>
        bd (gtR h22 2 x0 1) fun v23 =>
        bd (stI h22 v23 (((79 : Int32) + ((6 : Int32) * v14)) + (2 : Int32)) x3) fun h24 =>
        bd (gtR h24 2 x0 1) fun v25 =>
        gd (isC h24 2 x0) <|
        bd2 (f_X3_inkRow x0 x2 (1 : Int32) h24) fun r27 h28 =>
        bd (stI h28 v25 (((79 : Int32) + ((6 : Int32) * v14)) + (3 : Int32)) (r27 + (r2 / (25 : Int32)))) fun h30 =>
        bd (gtR h30 2 x0 1) fun v31 =>
        bd (ldI h30 0 v31 (((31 : Int32) + ((4 : Int32) * x2)) + (2 : Int32))) fun v32 =>
        bd (stI h30 v31 (((31 : Int32) + ((4 : Int32) * x2)) + (2 : Int32)) (v32 - ((1 : Int32) + (x3 / (20 : Int32))))) fun h33 =>
        bd (gtR h33 2 x0 1) fun v34 =>
        bd (ldI h33 0 v34 (((31 : Int32) + ((4 : Int32) * x2)) + (3 : Int32))) fun v35 =>
        bd (stI h33 v34 (((31 : Int32) + ((4 : Int32) * x2)) + (3 : Int32)) (v35 + (1 : Int32))) fun h36 =>
        bd (gtR h36 2 x0 1) fun v37 =>
        if (r2 + (x3 / (100 : Int32))) ≤ (100 : Int32) then (
          f_X3_prints_j221 x0 x1 x3 v14 v37 (((7 : Int32) + ((4 : Int32) * x1)) + (2 : Int32)) (r2 + (x3 / (100 : Int32))) h36
        ) else (
          f_X3_prints_j221 x0 x1 x3 v14 v37 (((7 : Int32) + ((4 : Int32) * x1)) + (2 : Int32)) (100 : Int32) h36
        )
      )
    ) else (
      gd (isC h11 2 x0) <|
      bd2 (f_X3_inkRow x0 x2 (2 : Int32) h11) fun r39 h40 =>
      gd (isC h40 2 x0) <|
      bd2 (f_X3_refused x0 (3 : Int32) r39 h40) fun r43 h44 =>
      some (r43, h44)
    )
  )
theorem v_X3_prints (D : va_G) (l : Launch) (hl : l.stackTraces = false) (as : List Value) (h0 : AH) {r : Int32} {hF : AH} (x0 : Nat) (x1 : Int32) (x2 : Int32) (x3 : Int32) (h : AH) (e : f_X3_prints x0 x1 x2 x3 h = some (r, hF)) : V (G_X3_prints D l as h0 hF (oI r)) h 0 [(0, .ref x0), (1, .int x1), (2, .int x2), (3, .int x3)] [] := by
  unfold f_X3_prints at e
  refine v_aload_n (pc' := 1) hc_X3_prints dX3_prints_0 rfl rfl 0 rfl ?_
  refine v_iload_n (pc' := 2) hc_X3_prints dX3_prints_1 rfl rfl 1 rfl ?_
  refine v_iconst (pc' := 3) (v := 2) hc_X3_prints dX3_prints_2 rfl rfl ?_
  obtain ⟨c1, e⟩ := gd_of e
  obtain ⟨r2, h3, e4, e⟩ := bd2_of e
  refine k_V (pc' := 6) (ci := 2) (n := 2) hc_X3_prints ho_X3_prints rfl c1 (w_X3_blockRow D l hl x0 x1 (2 : Int32) h e4) (wA_l q2363) q2365 (wA_l qs32) q85 q2366 hy_131 ⟨Nat.le_of_ble_eq_true rfl, Nat.le_of_ble_eq_true rfl⟩ rfl rfl (Nat.le_of_ble_eq_true rfl) dX3_prints_3 rfl (kS ?_) kN
  refine v_istore (pc' := 8) (lv' := [(4, .int r2), (0, .ref x0), (1, .int x1), (2, .int x2), (3, .int x3)]) hc_X3_prints dX3_prints_6 rfl (Nat.le_of_ble_eq_true rfl) rfl ?_
  refine v_iconst (pc' := 9) (v := 1) hc_X3_prints dX3_prints_8 rfl rfl ?_
  refine v_iload_n (pc' := 10) hc_X3_prints dX3_prints_9 rfl rfl 4 rfl ?_
  refine v_bipush (pc' := 12) (v := 20) hc_X3_prints dX3_prints_10 rfl rfl ?_
  refine v_idiv (pc' := 13) hc_X3_prints dX3_prints_12 rfl (by decide) ?_
  refine v_iadd (pc' := 14) hc_X3_prints dX3_prints_13 rfl ?_
  refine v_istore (pc' := 16) (lv' := [(5, .int ((1 : Int32) + (x3 / (20 : Int32)))), (4, .int r2), (0, .ref x0), (1, .int x1), (2, .int x2), (3, .int x3)]) hc_X3_prints dX3_prints_14 rfl (Nat.le_of_ble_eq_true rfl) rfl ?_
  refine v_iload (pc' := 18) hc_X3_prints dX3_prints_16 rfl 1 rfl ?_
  refine v_bipush (pc' := 20) (v := 100) hc_X3_prints dX3_prints_18 rfl rfl ?_
  refine v_icmp_ne (pt := 31) (pf := 23) hc_X3_prints dX3_prints_20 rfl rfl e (fun _ e => ?_) (fun _ e => ?_)
  · refine v_aload_n (pc' := 24) hc_X3_prints dX3_prints_23 rfl rfl 2 rfl ?_
    refine v_iconst (pc' := 25) (v := 2) hc_X3_prints dX3_prints_24 rfl rfl ?_
    refine v_bipush (pc' := 27) (v := 100) hc_X3_prints dX3_prints_25 rfl rfl ?_
    obtain ⟨c5, e⟩ := gd_of e
    obtain ⟨r6, h7, e8, e⟩ := bd2_of e
    refine k_V (pc' := 30) (ci := 2) (n := 2) hc_X3_prints ho_X3_prints rfl c5 (w_X3_refused D l hl x0 (2 : Int32) (100 : Int32) h3 e8) (wA_l q2335) q2337 (wA_l qs26) q85 q2338 hy_120 ⟨Nat.le_of_ble_eq_true rfl, Nat.le_of_ble_eq_true rfl⟩ rfl rfl (Nat.le_of_ble_eq_true rfl) dX3_prints_27 rfl (kS ?_) kN
    obtain ⟨rfl, rfl⟩ := ret_of e
    exact v_iret hc_X3_prints rfl dX3_prints_30 rfl rfl
  · refine v_aload_n (pc' := 32) hc_X3_prints dX3_prints_31 rfl rfl 2 rfl ?_
    refine v_iload_n (pc' := 33) hc_X3_prints dX3_prints_32 rfl rfl 4 rfl ?_
    refine v_iconst (pc' := 34) (v := 2) hc_X3_prints dX3_prints_33 rfl rfl ?_
    obtain ⟨c9, e⟩ := gd_of e
    obtain ⟨r10, h11, e12, e⟩ := bd2_of e
    refine k_V (pc' := 37) (ci := 2) (n := 2) hc_X3_prints ho_X3_prints rfl c9 (w_X3_inkRow D l hl x0 x2 (2 : Int32) h3 e12) (wA_l q2391) q2393 (wA_l qs36) q85 q2394 hy_145 ⟨Nat.le_of_ble_eq_true rfl, Nat.le_of_ble_eq_true rfl⟩ rfl rfl (Nat.le_of_ble_eq_true rfl) dX3_prints_34 rfl (kS ?_) kN
    refine v_iload (pc' := 39) hc_X3_prints dX3_prints_37 rfl 0 rfl ?_
    refine v_icmp_ge (pt := 54) (pf := 42) hc_X3_prints dX3_prints_39 rfl rfl e (fun _ e => ?_) (fun _ e => ?_)
    · refine v_aload_n (pc' := 55) hc_X3_prints dX3_prints_54 rfl rfl 2 rfl ?_
      refine v_gfR (pc' := 58) hc_X3_prints ho_X3_prints KX3 1 (Nat.le_of_ble_eq_true rfl) q2243 (Or.inl rfl) dX3_prints_55 rfl e (fun v13 _ e => ?_)
      refine v_iconst (pc' := 59) (v := 2) hc_X3_prints dX3_prints_58 rfl rfl ?_
      refine v_iald (pc' := 60) hc_X3_prints dX3_prints_59 rfl e (fun v14 _ e => ?_)
      refine v_istore (pc' := 62) (lv' := [(6, .int v14), (5, .int ((1 : Int32) + (x3 / (20 : Int32)))), (4, .int r2), (0, .ref x0), (1, .int x1), (2, .int x2), (3, .int x3)]) hc_X3_prints dX3_prints_60 rfl (Nat.le_of_ble_eq_true rfl) rfl ?_
      refine v_iload (pc' := 64) hc_X3_prints dX3_prints_62 rfl 0 rfl ?_
      refine v_bipush (pc' := 66) (v := 24) hc_X3_prints dX3_prints_64 rfl rfl ?_
      refine v_icmp_ne (pt := 77) (pf := 69) hc_X3_prints dX3_prints_66 rfl rfl e (fun _ e => ?_) (fun _ e => ?_)
      · refine v_aload_n (pc' := 70) hc_X3_prints dX3_prints_69 rfl rfl 3 rfl ?_
        refine v_iconst (pc' := 71) (v := 1) hc_X3_prints dX3_prints_70 rfl rfl ?_
        refine v_bipush (pc' := 73) (v := 24) hc_X3_prints dX3_prints_71 rfl rfl ?_
        obtain ⟨c15, e⟩ := gd_of e
        obtain ⟨r16, h17, e18, e⟩ := bd2_of e
        refine k_V (pc' := 76) (ci := 2) (n := 2) hc_X3_prints ho_X3_prints rfl c15 (w_X3_refused D l hl x0 (1 : Int32) (24 : Int32) h11 e18) (wA_l q2335) q2337 (wA_l qs26) q85 q2338 hy_120 ⟨Nat.le_of_ble_eq_true rfl, Nat.le_of_ble_eq_true rfl⟩ rfl rfl (Nat.le_of_ble_eq_true rfl) dX3_prints_73 rfl (kS ?_) kN
        obtain ⟨rfl, rfl⟩ := ret_of e
        exact v_iret hc_X3_prints rfl dX3_prints_76 rfl rfl
      · refine v_aload_n (pc' := 78) hc_X3_prints dX3_prints_77 rfl rfl 3 rfl ?_
        refine v_gfR (pc' := 81) hc_X3_prints ho_X3_prints KX3 1 (Nat.le_of_ble_eq_true rfl) q2243 (Or.inl rfl) dX3_prints_78 rfl e (fun v19 _ e => ?_)
        refine v_bipush (pc' := 83) (v := 79) hc_X3_prints dX3_prints_81 rfl rfl ?_
        refine v_bipush (pc' := 85) (v := 6) hc_X3_prints dX3_prints_83 rfl rfl ?_
        refine v_iload (pc' := 87) hc_X3_prints dX3_prints_85 rfl 0 rfl ?_
        refine v_imul (pc' := 88) hc_X3_prints dX3_prints_87 rfl ?_
        refine v_iadd (pc' := 89) hc_X3_prints dX3_prints_88 rfl ?_
        refine v_iload_n (pc' := 90) hc_X3_prints dX3_prints_89 rfl rfl 4 rfl ?_
        refine v_iast (pc' := 91) hc_X3_prints dX3_prints_90 rfl e (fun h20 _ e => ?_)
        refine v_aload_n (pc' := 92) hc_X3_prints dX3_prints_91 rfl rfl 3 rfl ?_
        refine v_gfR (pc' := 95) hc_X3_prints ho_X3_prints KX3 1 (Nat.le_of_ble_eq_true rfl) q2243 (Or.inl rfl) dX3_prints_92 rfl e (fun v21 _ e => ?_)
        refine v_bipush (pc' := 97) (v := 79) hc_X3_prints dX3_prints_95 rfl rfl ?_
        refine v_bipush (pc' := 99) (v := 6) hc_X3_prints dX3_prints_97 rfl rfl ?_
        refine v_iload (pc' := 101) hc_X3_prints dX3_prints_99 rfl 0 rfl ?_
        refine v_imul (pc' := 102) hc_X3_prints dX3_prints_101 rfl ?_
        refine v_iadd (pc' := 103) hc_X3_prints dX3_prints_102 rfl ?_
        refine v_iconst (pc' := 104) (v := 1) hc_X3_prints dX3_prints_103 rfl rfl ?_
        refine v_iadd (pc' := 105) hc_X3_prints dX3_prints_104 rfl ?_
        refine v_iload_n (pc' := 106) hc_X3_prints dX3_prints_105 rfl rfl 5 rfl ?_
        refine v_iast (pc' := 107) hc_X3_prints dX3_prints_106 rfl e (fun h22 _ e => ?_)
        refine v_aload_n (pc' := 108) hc_X3_prints dX3_prints_107 rfl rfl 3 rfl ?_
        refine v_gfR (pc' := 111) hc_X3_prints ho_X3_prints KX3 1 (Nat.le_of_ble_eq_true rfl) q2243 (Or.inl rfl) dX3_prints_108 rfl e (fun v23 _ e => ?_)
        refine v_bipush (pc' := 113) (v := 79) hc_X3_prints dX3_prints_111 rfl rfl ?_
        refine v_bipush (pc' := 115) (v := 6) hc_X3_prints dX3_prints_113 rfl rfl ?_
        refine v_iload (pc' := 117) hc_X3_prints dX3_prints_115 rfl 0 rfl ?_
        refine v_imul (pc' := 118) hc_X3_prints dX3_prints_117 rfl ?_
        refine v_iadd (pc' := 119) hc_X3_prints dX3_prints_118 rfl ?_
        refine v_iconst (pc' := 120) (v := 2) hc_X3_prints dX3_prints_119 rfl rfl ?_
        refine v_iadd (pc' := 121) hc_X3_prints dX3_prints_120 rfl ?_
        refine v_iload_n (pc' := 122) hc_X3_prints dX3_prints_121 rfl rfl 6 rfl ?_
        refine v_iast (pc' := 123) hc_X3_prints dX3_prints_122 rfl e (fun h24 _ e => ?_)
        refine v_aload_n (pc' := 124) hc_X3_prints dX3_prints_123 rfl rfl 3 rfl ?_
        refine v_gfR (pc' := 127) hc_X3_prints ho_X3_prints KX3 1 (Nat.le_of_ble_eq_true rfl) q2243 (Or.inl rfl) dX3_prints_124 rfl e (fun v25 _ e => ?_)
        refine v_bipush (pc' := 129) (v := 79) hc_X3_prints dX3_prints_127 rfl rfl ?_
        refine v_bipush (pc' := 131) (v := 6) hc_X3_prints dX3_prints_129 rfl rfl ?_
        refine v_iload (pc' := 133) hc_X3_prints dX3_prints_131 rfl 0 rfl ?_
        refine v_imul (pc' := 134) hc_X3_prints dX3_prints_133 rfl ?_
        refine v_iadd (pc' := 135) hc_X3_prints dX3_prints_134 rfl ?_
        refine v_iconst (pc' := 136) (v := 3) hc_X3_prints dX3_prints_135 rfl rfl ?_
        refine v_iadd (pc' := 137) hc_X3_prints dX3_prints_136 rfl ?_
        refine v_aload_n (pc' := 138) hc_X3_prints dX3_prints_137 rfl rfl 3 rfl ?_
        refine v_iload_n (pc' := 139) hc_X3_prints dX3_prints_138 rfl rfl 5 rfl ?_
        refine v_iconst (pc' := 140) (v := 1) hc_X3_prints dX3_prints_139 rfl rfl ?_
        obtain ⟨c26, e⟩ := gd_of e
        obtain ⟨r27, h28, e29, e⟩ := bd2_of e
        refine k_V (pc' := 143) (ci := 2) (n := 2) hc_X3_prints ho_X3_prints rfl c26 (w_X3_inkRow D l hl x0 x2 (1 : Int32) h24 e29) (wA_l q2391) q2393 (wA_l qs36) q85 q2394 hy_145 ⟨Nat.le_of_ble_eq_true rfl, Nat.le_of_ble_eq_true rfl⟩ rfl rfl (Nat.le_of_ble_eq_true rfl) dX3_prints_140 rfl (kS ?_) kN
        refine v_iload (pc' := 145) hc_X3_prints dX3_prints_143 rfl 2 rfl ?_
        refine v_bipush (pc' := 147) (v := 25) hc_X3_prints dX3_prints_145 rfl rfl ?_
        refine v_idiv (pc' := 148) hc_X3_prints dX3_prints_147 rfl (by decide) ?_
        refine v_iadd (pc' := 149) hc_X3_prints dX3_prints_148 rfl ?_
        refine v_iast (pc' := 150) hc_X3_prints dX3_prints_149 rfl e (fun h30 _ e => ?_)
        refine v_aload_n (pc' := 151) hc_X3_prints dX3_prints_150 rfl rfl 3 rfl ?_
        refine v_gfR (pc' := 154) hc_X3_prints ho_X3_prints KX3 1 (Nat.le_of_ble_eq_true rfl) q2243 (Or.inl rfl) dX3_prints_151 rfl e (fun v31 _ e => ?_)
        refine v_bipush (pc' := 156) (v := 31) hc_X3_prints dX3_prints_154 rfl rfl ?_
        refine v_iconst (pc' := 157) (v := 4) hc_X3_prints dX3_prints_156 rfl rfl ?_
        refine v_iload_n (pc' := 158) hc_X3_prints dX3_prints_157 rfl rfl 5 rfl ?_
        refine v_imul (pc' := 159) hc_X3_prints dX3_prints_158 rfl ?_
        refine v_iadd (pc' := 160) hc_X3_prints dX3_prints_159 rfl ?_
        refine v_iconst (pc' := 161) (v := 2) hc_X3_prints dX3_prints_160 rfl rfl ?_
        refine v_iadd (pc' := 162) hc_X3_prints dX3_prints_161 rfl ?_
        refine v_dup2 (pc' := 163) hc_X3_prints dX3_prints_162 rfl rfl rfl ?_
        refine v_iald (pc' := 164) hc_X3_prints dX3_prints_163 rfl e (fun v32 _ e => ?_)
        refine v_iload (pc' := 166) hc_X3_prints dX3_prints_164 rfl 1 rfl ?_
        refine v_isub (pc' := 167) hc_X3_prints dX3_prints_166 rfl ?_
        refine v_iast (pc' := 168) hc_X3_prints dX3_prints_167 rfl e (fun h33 _ e => ?_)
        refine v_aload_n (pc' := 169) hc_X3_prints dX3_prints_168 rfl rfl 3 rfl ?_
        refine v_gfR (pc' := 172) hc_X3_prints ho_X3_prints KX3 1 (Nat.le_of_ble_eq_true rfl) q2243 (Or.inl rfl) dX3_prints_169 rfl e (fun v34 _ e => ?_)
        refine v_bipush (pc' := 174) (v := 31) hc_X3_prints dX3_prints_172 rfl rfl ?_
        refine v_iconst (pc' := 175) (v := 4) hc_X3_prints dX3_prints_174 rfl rfl ?_
        refine v_iload_n (pc' := 176) hc_X3_prints dX3_prints_175 rfl rfl 5 rfl ?_
        refine v_imul (pc' := 177) hc_X3_prints dX3_prints_176 rfl ?_
        refine v_iadd (pc' := 178) hc_X3_prints dX3_prints_177 rfl ?_
        refine v_iconst (pc' := 179) (v := 3) hc_X3_prints dX3_prints_178 rfl rfl ?_
        refine v_iadd (pc' := 180) hc_X3_prints dX3_prints_179 rfl ?_
        refine v_dup2 (pc' := 181) hc_X3_prints dX3_prints_180 rfl rfl rfl ?_
        refine v_iald (pc' := 182) hc_X3_prints dX3_prints_181 rfl e (fun v35 _ e => ?_)
        refine v_iconst (pc' := 183) (v := 1) hc_X3_prints dX3_prints_182 rfl rfl ?_
        refine v_iadd (pc' := 184) hc_X3_prints dX3_prints_183 rfl ?_
        refine v_iast (pc' := 185) hc_X3_prints dX3_prints_184 rfl e (fun h36 _ e => ?_)
        refine v_aload_n (pc' := 186) hc_X3_prints dX3_prints_185 rfl rfl 3 rfl ?_
        refine v_gfR (pc' := 189) hc_X3_prints ho_X3_prints KX3 1 (Nat.le_of_ble_eq_true rfl) q2243 (Or.inl rfl) dX3_prints_186 rfl e (fun v37 _ e => ?_)
        refine v_bipush (pc' := 191) (v := 7) hc_X3_prints dX3_prints_189 rfl rfl ?_
        refine v_iconst (pc' := 192) (v := 4) hc_X3_prints dX3_prints_191 rfl rfl ?_
        refine v_iload_n (pc' := 193) hc_X3_prints dX3_prints_192 rfl rfl 4 rfl ?_
        refine v_imul (pc' := 194) hc_X3_prints dX3_prints_193 rfl ?_
        refine v_iadd (pc' := 195) hc_X3_prints dX3_prints_194 rfl ?_
        refine v_iconst (pc' := 196) (v := 2) hc_X3_prints dX3_prints_195 rfl rfl ?_
        refine v_iadd (pc' := 197) hc_X3_prints dX3_prints_196 rfl ?_
        refine v_iload (pc' := 199) hc_X3_prints dX3_prints_197 rfl 2 rfl ?_
        refine v_iload_n (pc' := 200) hc_X3_prints dX3_prints_199 rfl rfl 6 rfl ?_
        refine v_bipush (pc' := 202) (v := 100) hc_X3_prints dX3_prints_200 rfl rfl ?_
        refine v_idiv (pc' := 203) hc_X3_prints dX3_prints_202 rfl (by decide) ?_
        refine v_iadd (pc' := 204) hc_X3_prints dX3_prints_203 rfl ?_
        refine v_bipush (pc' := 206) (v := 100) hc_X3_prints dX3_prints_204 rfl rfl ?_
        refine v_icmp_le (pt := 214) (pf := 209) hc_X3_prints dX3_prints_206 rfl rfl e (fun _ e => ?_) (fun _ e => ?_)
        · refine v_iload (pc' := 216) hc_X3_prints dX3_prints_214 rfl 2 rfl ?_
          refine v_iload_n (pc' := 217) hc_X3_prints dX3_prints_216 rfl rfl 6 rfl ?_
          refine v_bipush (pc' := 219) (v := 100) hc_X3_prints dX3_prints_217 rfl rfl ?_
          refine v_idiv (pc' := 220) hc_X3_prints dX3_prints_219 rfl (by decide) ?_
          refine v_iadd (pc' := 221) hc_X3_prints dX3_prints_220 rfl ?_
          refine v_pick [3, 4, 6, 0] rfl ?_
          exact w_X3_prints_j221 D l hl as h0 x0 x1 x3 v14 v37 (((7 : Int32) + ((4 : Int32) * x1)) + (2 : Int32)) (r2 + (x3 / (100 : Int32))) h36 e
        · refine v_bipush (pc' := 211) (v := 100) hc_X3_prints dX3_prints_209 rfl rfl ?_
          refine v_goto (pt := 221) hc_X3_prints dX3_prints_211 rfl ?_
          refine v_pick [3, 4, 6, 0] rfl ?_
          exact w_X3_prints_j221 D l hl as h0 x0 x1 x3 v14 v37 (((7 : Int32) + ((4 : Int32) * x1)) + (2 : Int32)) (100 : Int32) h36 e
    · refine v_aload_n (pc' := 43) hc_X3_prints dX3_prints_42 rfl rfl 2 rfl ?_
      refine v_iconst (pc' := 44) (v := 3) hc_X3_prints dX3_prints_43 rfl rfl ?_
      refine v_aload_n (pc' := 45) hc_X3_prints dX3_prints_44 rfl rfl 2 rfl ?_
      refine v_iload_n (pc' := 46) hc_X3_prints dX3_prints_45 rfl rfl 4 rfl ?_
      refine v_iconst (pc' := 47) (v := 2) hc_X3_prints dX3_prints_46 rfl rfl ?_
      obtain ⟨c38, e⟩ := gd_of e
      obtain ⟨r39, h40, e41, e⟩ := bd2_of e
      refine k_V (pc' := 50) (ci := 2) (n := 2) hc_X3_prints ho_X3_prints rfl c38 (w_X3_inkRow D l hl x0 x2 (2 : Int32) h11 e41) (wA_l q2391) q2393 (wA_l qs36) q85 q2394 hy_145 ⟨Nat.le_of_ble_eq_true rfl, Nat.le_of_ble_eq_true rfl⟩ rfl rfl (Nat.le_of_ble_eq_true rfl) dX3_prints_47 rfl (kS ?_) kN
      obtain ⟨c42, e⟩ := gd_of e
      obtain ⟨r43, h44, e45, e⟩ := bd2_of e
      refine k_V (pc' := 53) (ci := 2) (n := 2) hc_X3_prints ho_X3_prints rfl c42 (w_X3_refused D l hl x0 (3 : Int32) r39 h40 e45) (wA_l q2335) q2337 (wA_l qs26) q85 q2338 hy_120 ⟨Nat.le_of_ble_eq_true rfl, Nat.le_of_ble_eq_true rfl⟩ rfl rfl (Nat.le_of_ble_eq_true rfl) dX3_prints_50 rfl (kS ?_) kN
      obtain ⟨rfl, rfl⟩ := ret_of e
      exact v_iret hc_X3_prints rfl dX3_prints_53 rfl rfl
theorem w_X3_prints (D : va_G) (l : Launch) (hl : l.stackTraces = false) (x0 : Nat) (x1 : Int32) (x2 : Int32) (x3 : Int32) (h : AH) {r : Int32} {hF : AH} (e : f_X3_prints x0 x1 x2 x3 h = some (r, hF)) : MetV D l yX3_prints (Cond.code yX3_prints cX3_prints 7 (Option.some .int)) 2 70 [.ref x0, .int x1, .int x2, .int x3] h hF (oI r) :=
  met_ofF (by decide +kernel) hl (Nat.le_of_ble_eq_true rfl) rfl (v_X3_prints D l hl [.ref x0, .int x1, .int x2, .int x3] h x0 x1 x2 x3 h e)
/-! BlockPapersModel.print(III)I  -/
abbrev G_X3_print (D : va_G) (l : Launch) (as : List Value) (h0 hF : AH) (o : Out) : CT := (D, l, (yX3_print.cls, yX3_print, cX3_print, 4, (Option.some .int), 3, 96, []), as, h0, hF, o)
theorem hc_X3_print {D : va_G} {l : Launch} {as : List Value} {h0 hF : AH} {o : Out} : gC (G_X3_print D l as h0 hF o) = cX3_print := rfl
theorem ho_X3_print {D : va_G} {l : Launch} {as : List Value} {h0 hF : AH} {o : Out} : gO (G_X3_print D l as h0 hF o) = "BlockPapersModel" := rfl
theorem hp_X3_print {D : va_G} {l : Launch} {as : List Value} {h0 hF : AH} {o : Out} (pc : Nat) : ∀ z ∈ tableOf (gHd (G_X3_print D l as h0 hF o)), covers z pc = false := hpN
def f_X3_print (x0 : Nat) (x1 : Int32) (x2 : Int32) (x3 : Int32) (h : AH) : Option (Int32 × AH) :=
  bd (stF h 2 x0 0 (.int (0 : Int32))) fun h1 =>
  gd (isC h1 2 x0) <|
  bd2 (f_X3_remembers x0 h1) fun r3 h4 =>
  gd (isC h4 2 x0) <|
  bd2 (f_X3_isBlock x0 x1 h4) fun r7 h8 =>
  if r7 = 0 then (
    gd (isC h8 2 x0) <|
    bd2 (f_X3_fails x0 (1 : Int32) h8) fun r11 h12 =>
    some (r11, h12)
  ) else (
    gd (isC h8 2 x0) <|
    bd2 (f_X3_isInk x0 x2 h8) fun r15 h16 =>
    if r15 = 0 then (
      gd (isC h16 2 x0) <|
      bd2 (f_X3_fails x0 (1 : Int32) h16) fun r19 h20 =>
      some (r19, h20)
    ) else (
      bd2 (f_X3_in x3 (100 : Int32) (1000 : Int32) h16) fun r22 h23 =>
      if r22 = 0 then (
        gd (isC h23 2 x0) <|
        bd2 (f_X3_fails x0 (2 : Int32) h23) fun r26 h27 =>
        some (r26, h27)
      ) else (
        gd (isC h23 2 x0) <|
        bd2 (f_X3_prints x0 x1 x2 x3 h23) fun r30 h31 =>
        gd (isC h31 2 x0) <|
        bd2 (f_X3_ends x0 r30 (3 : Int32) h31) fun r34 h35 =>
        some (r34, h35)
      )
    )
  )
theorem v_X3_print (D : va_G) (l : Launch) (hl : l.stackTraces = false) (as : List Value) (h0 : AH) {r : Int32} {hF : AH} (x0 : Nat) (x1 : Int32) (x2 : Int32) (x3 : Int32) (h : AH) (e : f_X3_print x0 x1 x2 x3 h = some (r, hF)) : V (G_X3_print D l as h0 hF (oI r)) h 0 [(0, .ref x0), (1, .int x1), (2, .int x2), (3, .int x3)] [] := by
  unfold f_X3_print at e
  refine v_aload_n (pc' := 1) hc_X3_print dX3_print_0 rfl rfl 0 rfl ?_
  refine v_iconst (pc' := 2) (v := 0) hc_X3_print dX3_print_1 rfl rfl ?_
  refine v_pf (pc' := 5) hc_X3_print ho_X3_print KX3 0 (Nat.le_of_ble_eq_true rfl) q2242 (Or.inl rfl) rfl dX3_print_2 rfl rfl rfl e (fun h1 _ e => ?_)
  refine v_aload_n (pc' := 6) hc_X3_print dX3_print_5 rfl rfl 0 rfl ?_
  obtain ⟨c2, e⟩ := gd_of e
  obtain ⟨r3, h4, e5, e⟩ := bd2_of e
  refine k_V (pc' := 9) (ci := 2) (n := 0) hc_X3_print ho_X3_print rfl c2 (w_X3_remembers D l hl x0 h1 e5) (wA_l q2324) q2326 (wA_l qs24) q85 q2327 hy_117 ⟨Nat.le_of_ble_eq_true rfl, Nat.le_of_ble_eq_true rfl⟩ rfl rfl (Nat.le_of_ble_eq_true rfl) dX3_print_6 rfl (kU ?_) kN
  refine v_aload_n (pc' := 10) hc_X3_print dX3_print_9 rfl rfl 0 rfl ?_
  refine v_iload_n (pc' := 11) hc_X3_print dX3_print_10 rfl rfl 1 rfl ?_
  obtain ⟨c6, e⟩ := gd_of e
  obtain ⟨r7, h8, e9, e⟩ := bd2_of e
  refine k_V (pc' := 14) (ci := 2) (n := 1) hc_X3_print ho_X3_print rfl c6 (w_X3_isBlock D l hl x0 x1 h4 e9) (wA_l q2359) q2361 (wA_l qs31) q85 q2362 hy_130 ⟨Nat.le_of_ble_eq_true rfl, Nat.le_of_ble_eq_true rfl⟩ rfl rfl (Nat.le_of_ble_eq_true rfl) dX3_print_11 rfl (kS ?_) kN
  refine v_if_eq (pt := 25) (pf := 17) hc_X3_print dX3_print_14 rfl rfl e (fun _ e => ?_) (fun _ e => ?_)
  · refine v_aload_n (pc' := 26) hc_X3_print dX3_print_25 rfl rfl 0 rfl ?_
    refine v_iconst (pc' := 27) (v := 1) hc_X3_print dX3_print_26 rfl rfl ?_
    obtain ⟨c10, e⟩ := gd_of e
    obtain ⟨r11, h12, e13, e⟩ := bd2_of e
    refine k_V (pc' := 30) (ci := 2) (n := 1) hc_X3_print ho_X3_print rfl c10 (w_X3_fails D l hl x0 (1 : Int32) h8 e13) (wA_l q2351) q2353 (wA_l qs30) q85 q2354 hy_119 ⟨Nat.le_of_ble_eq_true rfl, Nat.le_of_ble_eq_true rfl⟩ rfl rfl (Nat.le_of_ble_eq_true rfl) dX3_print_27 rfl (kS ?_) kN
    obtain ⟨rfl, rfl⟩ := ret_of e
    exact v_iret hc_X3_print rfl dX3_print_30 rfl rfl
  · refine v_aload_n (pc' := 18) hc_X3_print dX3_print_17 rfl rfl 0 rfl ?_
    refine v_iload_n (pc' := 19) hc_X3_print dX3_print_18 rfl rfl 2 rfl ?_
    obtain ⟨c14, e⟩ := gd_of e
    obtain ⟨r15, h16, e17, e⟩ := bd2_of e
    refine k_V (pc' := 22) (ci := 2) (n := 1) hc_X3_print ho_X3_print rfl c14 (w_X3_isInk D l hl x0 x2 h8 e17) (wA_l q2387) q2389 (wA_l qs35) q85 q2390 hy_144 ⟨Nat.le_of_ble_eq_true rfl, Nat.le_of_ble_eq_true rfl⟩ rfl rfl (Nat.le_of_ble_eq_true rfl) dX3_print_19 rfl (kS ?_) kN
    refine v_if_ne (pt := 31) (pf := 25) hc_X3_print dX3_print_22 rfl rfl e (fun _ e => ?_) (fun _ e => ?_)
    · refine v_aload_n (pc' := 26) hc_X3_print dX3_print_25 rfl rfl 0 rfl ?_
      refine v_iconst (pc' := 27) (v := 1) hc_X3_print dX3_print_26 rfl rfl ?_
      obtain ⟨c18, e⟩ := gd_of e
      obtain ⟨r19, h20, e21, e⟩ := bd2_of e
      refine k_V (pc' := 30) (ci := 2) (n := 1) hc_X3_print ho_X3_print rfl c18 (w_X3_fails D l hl x0 (1 : Int32) h16 e21) (wA_l q2351) q2353 (wA_l qs30) q85 q2354 hy_119 ⟨Nat.le_of_ble_eq_true rfl, Nat.le_of_ble_eq_true rfl⟩ rfl rfl (Nat.le_of_ble_eq_true rfl) dX3_print_27 rfl (kS ?_) kN
      obtain ⟨rfl, rfl⟩ := ret_of e
      exact v_iret hc_X3_print rfl dX3_print_30 rfl rfl
    · refine v_iload_n (pc' := 32) hc_X3_print dX3_print_31 rfl rfl 3 rfl ?_
      refine v_bipush (pc' := 34) (v := 100) hc_X3_print dX3_print_32 rfl rfl ?_
      refine v_sipush (pc' := 37) (v := 1000) hc_X3_print dX3_print_34 rfl rfl ?_
      obtain ⟨r22, h23, e24, e⟩ := bd2_of e
      refine k_S (pc' := 40) (n := 3) hc_X3_print ho_X3_print (w_X3_in D l hl x3 (100 : Int32) (1000 : Int32) h16 e24) (wA_l q2328) q2329 q85 q2330 hy_118 ⟨Nat.le_of_ble_eq_true rfl, Nat.le_of_ble_eq_true rfl⟩ rfl rfl (Nat.le_of_ble_eq_true rfl) dX3_print_37 rfl (kS ?_) kN
      refine v_if_eq (pt := 58) (pf := 43) hc_X3_print dX3_print_40 rfl rfl e (fun _ e => ?_) (fun _ e => ?_)
      · refine v_aload_n (pc' := 59) hc_X3_print dX3_print_58 rfl rfl 0 rfl ?_
        refine v_iconst (pc' := 60) (v := 2) hc_X3_print dX3_print_59 rfl rfl ?_
        obtain ⟨c25, e⟩ := gd_of e
        obtain ⟨r26, h27, e28, e⟩ := bd2_of e
        refine k_V (pc' := 63) (ci := 2) (n := 1) hc_X3_print ho_X3_print rfl c25 (w_X3_fails D l hl x0 (2 : Int32) h23 e28) (wA_l q2351) q2353 (wA_l qs30) q85 q2354 hy_119 ⟨Nat.le_of_ble_eq_true rfl, Nat.le_of_ble_eq_true rfl⟩ rfl rfl (Nat.le_of_ble_eq_true rfl) dX3_print_60 rfl (kS ?_) kN
        obtain ⟨rfl, rfl⟩ := ret_of e
        exact v_iret hc_X3_print rfl dX3_print_63 rfl rfl
      · refine v_aload_n (pc' := 44) hc_X3_print dX3_print_43 rfl rfl 0 rfl ?_
        refine v_aload_n (pc' := 45) hc_X3_print dX3_print_44 rfl rfl 0 rfl ?_
        refine v_iload_n (pc' := 46) hc_X3_print dX3_print_45 rfl rfl 1 rfl ?_
        refine v_iload_n (pc' := 47) hc_X3_print dX3_print_46 rfl rfl 2 rfl ?_
        refine v_iload_n (pc' := 48) hc_X3_print dX3_print_47 rfl rfl 3 rfl ?_
        obtain ⟨c29, e⟩ := gd_of e
        obtain ⟨r30, h31, e32, e⟩ := bd2_of e
        refine k_V (pc' := 51) (ci := 2) (n := 3) hc_X3_print ho_X3_print rfl c29 (w_X3_prints D l hl x0 x1 x2 x3 h23 e32) (wA_l q2407) q2409 (wA_l qs38) q85 q2410 hy_153 ⟨Nat.le_of_ble_eq_true rfl, Nat.le_of_ble_eq_true rfl⟩ rfl rfl (Nat.le_of_ble_eq_true rfl) dX3_print_48 rfl (kS ?_) kN
        refine v_iconst (pc' := 52) (v := 3) hc_X3_print dX3_print_51 rfl rfl ?_
        obtain ⟨c33, e⟩ := gd_of e
        obtain ⟨r34, h35, e36, e⟩ := bd2_of e
        refine k_V (pc' := 55) (ci := 2) (n := 2) hc_X3_print ho_X3_print rfl c33 (w_X3_ends D l hl x0 r30 (3 : Int32) h31 e36) (wA_l q2343) q2345 (wA_l qs28) q85 q2346 hy_124 ⟨Nat.le_of_ble_eq_true rfl, Nat.le_of_ble_eq_true rfl⟩ rfl rfl (Nat.le_of_ble_eq_true rfl) dX3_print_52 rfl (kS ?_) kN
        refine v_goto (pt := 63) hc_X3_print dX3_print_55 rfl ?_
        obtain ⟨rfl, rfl⟩ := ret_of e
        exact v_iret hc_X3_print rfl dX3_print_63 rfl rfl
theorem w_X3_print (D : va_G) (l : Launch) (hl : l.stackTraces = false) (x0 : Nat) (x1 : Int32) (x2 : Int32) (x3 : Int32) (h : AH) {r : Int32} {hF : AH} (e : f_X3_print x0 x1 x2 x3 h = some (r, hF)) : MetV D l yX3_print (Cond.code yX3_print cX3_print 4 (Option.some .int)) 3 96 [.ref x0, .int x1, .int x2, .int x3] h hF (oI r) :=
  met_ofF (by decide +kernel) hl (Nat.le_of_ble_eq_true rfl) rfl (v_X3_print D l hl [.ref x0, .int x1, .int x2, .int x3] h x0 x1 x2 x3 h e)
/-! BlockPapersModel.isRoll(I)Z  -/
abbrev G_X3_isRoll (D : va_G) (l : Launch) (as : List Value) (h0 hF : AH) (o : Out) : CT := (D, l, (yX3_isRoll.cls, yX3_isRoll, cX3_isRoll, 2, (Option.some .boolean), 2, 70, []), as, h0, hF, o)
theorem hc_X3_isRoll {D : va_G} {l : Launch} {as : List Value} {h0 hF : AH} {o : Out} : gC (G_X3_isRoll D l as h0 hF o) = cX3_isRoll := rfl
theorem ho_X3_isRoll {D : va_G} {l : Launch} {as : List Value} {h0 hF : AH} {o : Out} : gO (G_X3_isRoll D l as h0 hF o) = "BlockPapersModel" := rfl
theorem hp_X3_isRoll {D : va_G} {l : Launch} {as : List Value} {h0 hF : AH} {o : Out} (pc : Nat) : ∀ z ∈ tableOf (gHd (G_X3_isRoll D l as h0 hF o)), covers z pc = false := hpN
def f_X3_isRoll (x0 : Nat) (x1 : Int32) (h : AH) : Option (Int32 × AH) :=
  bd (gtR h 2 x0 1) fun v1 =>
  bd (ldI h 0 v1 (2 : Int32)) fun v2 =>
  bd2 (f_X3_in x1 (0 : Int32) (v2 - (1 : Int32)) h) fun r3 h4 =>
  gd (nrw .boolean r3) <|
  some (r3, h4)
theorem v_X3_isRoll (D : va_G) (l : Launch) (hl : l.stackTraces = false) (as : List Value) (h0 : AH) {r : Int32} {hF : AH} (x0 : Nat) (x1 : Int32) (h : AH) (e : f_X3_isRoll x0 x1 h = some (r, hF)) : V (G_X3_isRoll D l as h0 hF (oI r)) h 0 [(0, .ref x0), (1, .int x1)] [] := by
  unfold f_X3_isRoll at e
  refine v_iload_n (pc' := 1) hc_X3_isRoll dX3_isRoll_0 rfl rfl 1 rfl ?_
  refine v_iconst (pc' := 2) (v := 0) hc_X3_isRoll dX3_isRoll_1 rfl rfl ?_
  refine v_aload_n (pc' := 3) hc_X3_isRoll dX3_isRoll_2 rfl rfl 0 rfl ?_
  refine v_gfR (pc' := 6) hc_X3_isRoll ho_X3_isRoll KX3 1 (Nat.le_of_ble_eq_true rfl) q2243 (Or.inl rfl) dX3_isRoll_3 rfl e (fun v1 _ e => ?_)
  refine v_iconst (pc' := 7) (v := 2) hc_X3_isRoll dX3_isRoll_6 rfl rfl ?_
  refine v_iald (pc' := 8) hc_X3_isRoll dX3_isRoll_7 rfl e (fun v2 _ e => ?_)
  refine v_iconst (pc' := 9) (v := 1) hc_X3_isRoll dX3_isRoll_8 rfl rfl ?_
  refine v_isub (pc' := 10) hc_X3_isRoll dX3_isRoll_9 rfl ?_
  obtain ⟨r3, h4, e5, e⟩ := bd2_of e
  refine k_S (pc' := 13) (n := 3) hc_X3_isRoll ho_X3_isRoll (w_X3_in D l hl x1 (0 : Int32) (v2 - (1 : Int32)) h e5) (wA_l q2328) q2329 q85 q2330 hy_118 ⟨Nat.le_of_ble_eq_true rfl, Nat.le_of_ble_eq_true rfl⟩ rfl rfl (Nat.le_of_ble_eq_true rfl) dX3_isRoll_10 rfl (kS ?_) kN
  obtain ⟨c6, e⟩ := gd_of e
  obtain ⟨rfl, rfl⟩ := ret_of e
  exact v_zret hc_X3_isRoll rfl (nrw_of c6) dX3_isRoll_13 rfl rfl
theorem w_X3_isRoll (D : va_G) (l : Launch) (hl : l.stackTraces = false) (x0 : Nat) (x1 : Int32) (h : AH) {r : Int32} {hF : AH} (e : f_X3_isRoll x0 x1 h = some (r, hF)) : MetV D l yX3_isRoll (Cond.code yX3_isRoll cX3_isRoll 2 (Option.some .boolean)) 2 70 [.ref x0, .int x1] h hF (oI r) :=
  met_ofF (by decide +kernel) hl (Nat.le_of_ble_eq_true rfl) rfl (v_X3_isRoll D l hl [.ref x0, .int x1] h x0 x1 h e)
/-! BlockPapersModel.rollRow(II)I  -/
abbrev G_X3_rollRow (D : va_G) (l : Launch) (as : List Value) (h0 hF : AH) (o : Out) : CT := (D, l, (yX3_rollRow.cls, yX3_rollRow, cX3_rollRow, 3, (Option.some .int), 1, 48, []), as, h0, hF, o)
theorem hc_X3_rollRow {D : va_G} {l : Launch} {as : List Value} {h0 hF : AH} {o : Out} : gC (G_X3_rollRow D l as h0 hF o) = cX3_rollRow := rfl
theorem ho_X3_rollRow {D : va_G} {l : Launch} {as : List Value} {h0 hF : AH} {o : Out} : gO (G_X3_rollRow D l as h0 hF o) = "BlockPapersModel" := rfl
theorem hp_X3_rollRow {D : va_G} {l : Launch} {as : List Value} {h0 hF : AH} {o : Out} (pc : Nat) : ∀ z ∈ tableOf (gHd (G_X3_rollRow D l as h0 hF o)), covers z pc = false := hpN
def f_X3_rollRow (x0 : Nat) (x1 : Int32) (x2 : Int32) (h : AH) : Option (Int32 × AH) :=
  bd (gtR h 2 x0 1) fun v1 =>
  bd (ldI h 0 v1 (((79 : Int32) + ((6 : Int32) * x1)) + x2)) fun v2 =>
  some (v2, h)
theorem v_X3_rollRow (D : va_G) (l : Launch) (hl : l.stackTraces = false) (as : List Value) (h0 : AH) {r : Int32} {hF : AH} (x0 : Nat) (x1 : Int32) (x2 : Int32) (h : AH) (e : f_X3_rollRow x0 x1 x2 h = some (r, hF)) : V (G_X3_rollRow D l as h0 hF (oI r)) h 0 [(0, .ref x0), (1, .int x1), (2, .int x2)] [] := by
  unfold f_X3_rollRow at e
  refine v_aload_n (pc' := 1) hc_X3_rollRow dX3_rollRow_0 rfl rfl 0 rfl ?_
  refine v_gfR (pc' := 4) hc_X3_rollRow ho_X3_rollRow KX3 1 (Nat.le_of_ble_eq_true rfl) q2243 (Or.inl rfl) dX3_rollRow_1 rfl e (fun v1 _ e => ?_)
  refine v_bipush (pc' := 6) (v := 79) hc_X3_rollRow dX3_rollRow_4 rfl rfl ?_
  refine v_bipush (pc' := 8) (v := 6) hc_X3_rollRow dX3_rollRow_6 rfl rfl ?_
  refine v_iload_n (pc' := 9) hc_X3_rollRow dX3_rollRow_8 rfl rfl 1 rfl ?_
  refine v_imul (pc' := 10) hc_X3_rollRow dX3_rollRow_9 rfl ?_
  refine v_iadd (pc' := 11) hc_X3_rollRow dX3_rollRow_10 rfl ?_
  refine v_iload_n (pc' := 12) hc_X3_rollRow dX3_rollRow_11 rfl rfl 2 rfl ?_
  refine v_iadd (pc' := 13) hc_X3_rollRow dX3_rollRow_12 rfl ?_
  refine v_iald (pc' := 14) hc_X3_rollRow dX3_rollRow_13 rfl e (fun v2 _ e => ?_)
  obtain ⟨rfl, rfl⟩ := ret_of e
  exact v_iret hc_X3_rollRow rfl dX3_rollRow_14 rfl rfl
theorem w_X3_rollRow (D : va_G) (l : Launch) (hl : l.stackTraces = false) (x0 : Nat) (x1 : Int32) (x2 : Int32) (h : AH) {r : Int32} {hF : AH} (e : f_X3_rollRow x0 x1 x2 h = some (r, hF)) : MetV D l yX3_rollRow (Cond.code yX3_rollRow cX3_rollRow 3 (Option.some .int)) 1 48 [.ref x0, .int x1, .int x2] h hF (oI r) :=
  met_ofF (by decide +kernel) hl (Nat.le_of_ble_eq_true rfl) rfl (v_X3_rollRow D l hl [.ref x0, .int x1, .int x2] h x0 x1 x2 h e)
/-! BlockPapersModel.colourOf(I)I  -/
abbrev G_X3_colourOf (D : va_G) (l : Launch) (as : List Value) (h0 hF : AH) (o : Out) : CT := (D, l, (yX3_colourOf.cls, yX3_colourOf, cX3_colourOf, 2, (Option.some .int), 2, 70, []), as, h0, hF, o)
theorem hc_X3_colourOf {D : va_G} {l : Launch} {as : List Value} {h0 hF : AH} {o : Out} : gC (G_X3_colourOf D l as h0 hF o) = cX3_colourOf := rfl
theorem ho_X3_colourOf {D : va_G} {l : Launch} {as : List Value} {h0 hF : AH} {o : Out} : gO (G_X3_colourOf D l as h0 hF o) = "BlockPapersModel" := rfl
theorem hp_X3_colourOf {D : va_G} {l : Launch} {as : List Value} {h0 hF : AH} {o : Out} (pc : Nat) : ∀ z ∈ tableOf (gHd (G_X3_colourOf D l as h0 hF o)), covers z pc = false := hpN
def f_X3_colourOf (x0 : Nat) (x1 : Int32) (h : AH) : Option (Int32 × AH) :=
  gd (isC h 2 x0) <|
  bd2 (f_X3_rollRow x0 x1 (1 : Int32) h) fun r2 h3 =>
  gd (isC h3 2 x0) <|
  bd2 (f_X3_inkRow x0 r2 (0 : Int32) h3) fun r6 h7 =>
  some (r6, h7)
theorem v_X3_colourOf (D : va_G) (l : Launch) (hl : l.stackTraces = false) (as : List Value) (h0 : AH) {r : Int32} {hF : AH} (x0 : Nat) (x1 : Int32) (h : AH) (e : f_X3_colourOf x0 x1 h = some (r, hF)) : V (G_X3_colourOf D l as h0 hF (oI r)) h 0 [(0, .ref x0), (1, .int x1)] [] := by
  unfold f_X3_colourOf at e
  refine v_aload_n (pc' := 1) hc_X3_colourOf dX3_colourOf_0 rfl rfl 0 rfl ?_
  refine v_aload_n (pc' := 2) hc_X3_colourOf dX3_colourOf_1 rfl rfl 0 rfl ?_
  refine v_iload_n (pc' := 3) hc_X3_colourOf dX3_colourOf_2 rfl rfl 1 rfl ?_
  refine v_iconst (pc' := 4) (v := 1) hc_X3_colourOf dX3_colourOf_3 rfl rfl ?_
  obtain ⟨c1, e⟩ := gd_of e
  obtain ⟨r2, h3, e4, e⟩ := bd2_of e
  refine k_V (pc' := 7) (ci := 2) (n := 2) hc_X3_colourOf ho_X3_colourOf rfl c1 (w_X3_rollRow D l hl x0 x1 (1 : Int32) h e4) (wA_l q2419) q2421 (wA_l qs40) q85 q2422 hy_165 ⟨Nat.le_of_ble_eq_true rfl, Nat.le_of_ble_eq_true rfl⟩ rfl rfl (Nat.le_of_ble_eq_true rfl) dX3_colourOf_4 rfl (kS ?_) kN
  refine v_iconst (pc' := 8) (v := 0) hc_X3_colourOf dX3_colourOf_7 rfl rfl ?_
  obtain ⟨c5, e⟩ := gd_of e
  obtain ⟨r6, h7, e8, e⟩ := bd2_of e
  refine k_V (pc' := 11) (ci := 2) (n := 2) hc_X3_colourOf ho_X3_colourOf rfl c5 (w_X3_inkRow D l hl x0 r2 (0 : Int32) h3 e8) (wA_l q2391) q2393 (wA_l qs36) q85 q2394 hy_145 ⟨Nat.le_of_ble_eq_true rfl, Nat.le_of_ble_eq_true rfl⟩ rfl rfl (Nat.le_of_ble_eq_true rfl) dX3_colourOf_8 rfl (kS ?_) kN
  obtain ⟨rfl, rfl⟩ := ret_of e
  exact v_iret hc_X3_colourOf rfl dX3_colourOf_11 rfl rfl
theorem w_X3_colourOf (D : va_G) (l : Launch) (hl : l.stackTraces = false) (x0 : Nat) (x1 : Int32) (h : AH) {r : Int32} {hF : AH} (e : f_X3_colourOf x0 x1 h = some (r, hF)) : MetV D l yX3_colourOf (Cond.code yX3_colourOf cX3_colourOf 2 (Option.some .int)) 2 70 [.ref x0, .int x1] h hF (oI r) :=
  met_ofF (by decide +kernel) hl (Nat.le_of_ble_eq_true rfl) rfl (v_X3_colourOf D l hl [.ref x0, .int x1] h x0 x1 h e)
/-! BlockPapersModel.leftOf(I)I  -/
abbrev G_X3_leftOf (D : va_G) (l : Launch) (as : List Value) (h0 hF : AH) (o : Out) : CT := (D, l, (yX3_leftOf.cls, yX3_leftOf, cX3_leftOf, 2, (Option.some .int), 2, 70, []), as, h0, hF, o)
theorem hc_X3_leftOf {D : va_G} {l : Launch} {as : List Value} {h0 hF : AH} {o : Out} : gC (G_X3_leftOf D l as h0 hF o) = cX3_leftOf := rfl
theorem ho_X3_leftOf {D : va_G} {l : Launch} {as : List Value} {h0 hF : AH} {o : Out} : gO (G_X3_leftOf D l as h0 hF o) = "BlockPapersModel" := rfl
theorem hp_X3_leftOf {D : va_G} {l : Launch} {as : List Value} {h0 hF : AH} {o : Out} (pc : Nat) : ∀ z ∈ tableOf (gHd (G_X3_leftOf D l as h0 hF o)), covers z pc = false := hpN
def f_X3_leftOf (x0 : Nat) (x1 : Int32) (h : AH) : Option (Int32 × AH) :=
  gd (isC h 2 x0) <|
  bd2 (f_X3_rollRow x0 x1 (5 : Int32) h) fun r2 h3 =>
  if r2 = (1 : Int32) then (
    some ((0 : Int32), h3)
  ) else (
    gd (isC h3 2 x0) <|
    bd2 (f_X3_rollRow x0 x1 (2 : Int32) h3) fun r6 h7 =>
    gd (isC h7 2 x0) <|
    bd2 (f_X3_rollRow x0 x1 (4 : Int32) h7) fun r10 h11 =>
    some ((r6 - r10), h11)
  )
theorem v_X3_leftOf (D : va_G) (l : Launch) (hl : l.stackTraces = false) (as : List Value) (h0 : AH) {r : Int32} {hF : AH} (x0 : Nat) (x1 : Int32) (h : AH) (e : f_X3_leftOf x0 x1 h = some (r, hF)) : V (G_X3_leftOf D l as h0 hF (oI r)) h 0 [(0, .ref x0), (1, .int x1)] [] := by
  unfold f_X3_leftOf at e
  refine v_aload_n (pc' := 1) hc_X3_leftOf dX3_leftOf_0 rfl rfl 0 rfl ?_
  refine v_iload_n (pc' := 2) hc_X3_leftOf dX3_leftOf_1 rfl rfl 1 rfl ?_
  refine v_iconst (pc' := 3) (v := 5) hc_X3_leftOf dX3_leftOf_2 rfl rfl ?_
  obtain ⟨c1, e⟩ := gd_of e
  obtain ⟨r2, h3, e4, e⟩ := bd2_of e
  refine k_V (pc' := 6) (ci := 2) (n := 2) hc_X3_leftOf ho_X3_leftOf rfl c1 (w_X3_rollRow D l hl x0 x1 (5 : Int32) h e4) (wA_l q2419) q2421 (wA_l qs40) q85 q2422 hy_165 ⟨Nat.le_of_ble_eq_true rfl, Nat.le_of_ble_eq_true rfl⟩ rfl rfl (Nat.le_of_ble_eq_true rfl) dX3_leftOf_3 rfl (kS ?_) kN
  refine v_iconst (pc' := 7) (v := 1) hc_X3_leftOf dX3_leftOf_6 rfl rfl ?_
  refine v_icmp_ne (pt := 14) (pf := 10) hc_X3_leftOf dX3_leftOf_7 rfl rfl e (fun _ e => ?_) (fun _ e => ?_)
  · refine v_iconst (pc' := 11) (v := 0) hc_X3_leftOf dX3_leftOf_10 rfl rfl ?_
    refine v_goto (pt := 27) hc_X3_leftOf dX3_leftOf_11 rfl ?_
    obtain ⟨rfl, rfl⟩ := ret_of e
    exact v_iret hc_X3_leftOf rfl dX3_leftOf_27 rfl rfl
  · refine v_aload_n (pc' := 15) hc_X3_leftOf dX3_leftOf_14 rfl rfl 0 rfl ?_
    refine v_iload_n (pc' := 16) hc_X3_leftOf dX3_leftOf_15 rfl rfl 1 rfl ?_
    refine v_iconst (pc' := 17) (v := 2) hc_X3_leftOf dX3_leftOf_16 rfl rfl ?_
    obtain ⟨c5, e⟩ := gd_of e
    obtain ⟨r6, h7, e8, e⟩ := bd2_of e
    refine k_V (pc' := 20) (ci := 2) (n := 2) hc_X3_leftOf ho_X3_leftOf rfl c5 (w_X3_rollRow D l hl x0 x1 (2 : Int32) h3 e8) (wA_l q2419) q2421 (wA_l qs40) q85 q2422 hy_165 ⟨Nat.le_of_ble_eq_true rfl, Nat.le_of_ble_eq_true rfl⟩ rfl rfl (Nat.le_of_ble_eq_true rfl) dX3_leftOf_17 rfl (kS ?_) kN
    refine v_aload_n (pc' := 21) hc_X3_leftOf dX3_leftOf_20 rfl rfl 0 rfl ?_
    refine v_iload_n (pc' := 22) hc_X3_leftOf dX3_leftOf_21 rfl rfl 1 rfl ?_
    refine v_iconst (pc' := 23) (v := 4) hc_X3_leftOf dX3_leftOf_22 rfl rfl ?_
    obtain ⟨c9, e⟩ := gd_of e
    obtain ⟨r10, h11, e12, e⟩ := bd2_of e
    refine k_V (pc' := 26) (ci := 2) (n := 2) hc_X3_leftOf ho_X3_leftOf rfl c9 (w_X3_rollRow D l hl x0 x1 (4 : Int32) h7 e12) (wA_l q2419) q2421 (wA_l qs40) q85 q2422 hy_165 ⟨Nat.le_of_ble_eq_true rfl, Nat.le_of_ble_eq_true rfl⟩ rfl rfl (Nat.le_of_ble_eq_true rfl) dX3_leftOf_23 rfl (kS ?_) kN
    refine v_isub (pc' := 27) hc_X3_leftOf dX3_leftOf_26 rfl ?_
    obtain ⟨rfl, rfl⟩ := ret_of e
    exact v_iret hc_X3_leftOf rfl dX3_leftOf_27 rfl rfl
theorem w_X3_leftOf (D : va_G) (l : Launch) (hl : l.stackTraces = false) (x0 : Nat) (x1 : Int32) (h : AH) {r : Int32} {hF : AH} (e : f_X3_leftOf x0 x1 h = some (r, hF)) : MetV D l yX3_leftOf (Cond.code yX3_leftOf cX3_leftOf 2 (Option.some .int)) 2 70 [.ref x0, .int x1] h hF (oI r) :=
  met_ofF (by decide +kernel) hl (Nat.le_of_ble_eq_true rfl) rfl (v_X3_leftOf D l hl [.ref x0, .int x1] h x0 x1 h e)
/-! BlockPapersModel.roomRow(II)I  -/
abbrev G_X3_roomRow (D : va_G) (l : Launch) (as : List Value) (h0 hF : AH) (o : Out) : CT := (D, l, (yX3_roomRow.cls, yX3_roomRow, cX3_roomRow, 3, (Option.some .int), 1, 48, []), as, h0, hF, o)
theorem hc_X3_roomRow {D : va_G} {l : Launch} {as : List Value} {h0 hF : AH} {o : Out} : gC (G_X3_roomRow D l as h0 hF o) = cX3_roomRow := rfl
theorem ho_X3_roomRow {D : va_G} {l : Launch} {as : List Value} {h0 hF : AH} {o : Out} : gO (G_X3_roomRow D l as h0 hF o) = "BlockPapersModel" := rfl
theorem hp_X3_roomRow {D : va_G} {l : Launch} {as : List Value} {h0 hF : AH} {o : Out} (pc : Nat) : ∀ z ∈ tableOf (gHd (G_X3_roomRow D l as h0 hF o)), covers z pc = false := hpN
def f_X3_roomRow (x0 : Nat) (x1 : Int32) (x2 : Int32) (h : AH) : Option (Int32 × AH) :=
  bd (gtR h 2 x0 1) fun v1 =>
  bd (ldI h 0 v1 (((223 : Int32) + ((5 : Int32) * x1)) + x2)) fun v2 =>
  some (v2, h)
theorem v_X3_roomRow (D : va_G) (l : Launch) (hl : l.stackTraces = false) (as : List Value) (h0 : AH) {r : Int32} {hF : AH} (x0 : Nat) (x1 : Int32) (x2 : Int32) (h : AH) (e : f_X3_roomRow x0 x1 x2 h = some (r, hF)) : V (G_X3_roomRow D l as h0 hF (oI r)) h 0 [(0, .ref x0), (1, .int x1), (2, .int x2)] [] := by
  unfold f_X3_roomRow at e
  refine v_aload_n (pc' := 1) hc_X3_roomRow dX3_roomRow_0 rfl rfl 0 rfl ?_
  refine v_gfR (pc' := 4) hc_X3_roomRow ho_X3_roomRow KX3 1 (Nat.le_of_ble_eq_true rfl) q2243 (Or.inl rfl) dX3_roomRow_1 rfl e (fun v1 _ e => ?_)
  refine v_sipush (pc' := 7) (v := 223) hc_X3_roomRow dX3_roomRow_4 rfl rfl ?_
  refine v_iconst (pc' := 8) (v := 5) hc_X3_roomRow dX3_roomRow_7 rfl rfl ?_
  refine v_iload_n (pc' := 9) hc_X3_roomRow dX3_roomRow_8 rfl rfl 1 rfl ?_
  refine v_imul (pc' := 10) hc_X3_roomRow dX3_roomRow_9 rfl ?_
  refine v_iadd (pc' := 11) hc_X3_roomRow dX3_roomRow_10 rfl ?_
  refine v_iload_n (pc' := 12) hc_X3_roomRow dX3_roomRow_11 rfl rfl 2 rfl ?_
  refine v_iadd (pc' := 13) hc_X3_roomRow dX3_roomRow_12 rfl ?_
  refine v_iald (pc' := 14) hc_X3_roomRow dX3_roomRow_13 rfl e (fun v2 _ e => ?_)
  obtain ⟨rfl, rfl⟩ := ret_of e
  exact v_iret hc_X3_roomRow rfl dX3_roomRow_14 rfl rfl
theorem w_X3_roomRow (D : va_G) (l : Launch) (hl : l.stackTraces = false) (x0 : Nat) (x1 : Int32) (x2 : Int32) (h : AH) {r : Int32} {hF : AH} (e : f_X3_roomRow x0 x1 x2 h = some (r, hF)) : MetV D l yX3_roomRow (Cond.code yX3_roomRow cX3_roomRow 3 (Option.some .int)) 1 48 [.ref x0, .int x1, .int x2] h hF (oI r) :=
  met_ofF (by decide +kernel) hl (Nat.le_of_ble_eq_true rfl) rfl (v_X3_roomRow D l hl [.ref x0, .int x1, .int x2] h x0 x1 x2 h e)
/-! BlockPapersModel.dropAt(II)I  -/
abbrev G_X3_dropAt (D : va_G) (l : Launch) (as : List Value) (h0 hF : AH) (o : Out) : CT := (D, l, (yX3_dropAt.cls, yX3_dropAt, cX3_dropAt, 2, (Option.some .int), 1, 48, []), as, h0, hF, o)
theorem hc_X3_dropAt {D : va_G} {l : Launch} {as : List Value} {h0 hF : AH} {o : Out} : gC (G_X3_dropAt D l as h0 hF o) = cX3_dropAt := rfl
theorem ho_X3_dropAt {D : va_G} {l : Launch} {as : List Value} {h0 hF : AH} {o : Out} : gO (G_X3_dropAt D l as h0 hF o) = "BlockPapersModel" := rfl
theorem hp_X3_dropAt {D : va_G} {l : Launch} {as : List Value} {h0 hF : AH} {o : Out} (pc : Nat) : ∀ z ∈ tableOf (gHd (G_X3_dropAt D l as h0 hF o)), covers z pc = false := hpN
def f_X3_dropAt (x0 : Int32) (x1 : Int32) (h : AH) : Option (Int32 × AH) :=
  some ((((253 : Int32) + ((90 : Int32) * x0)) + ((3 : Int32) * x1)), h)
theorem v_X3_dropAt (D : va_G) (l : Launch) (hl : l.stackTraces = false) (as : List Value) (h0 : AH) {r : Int32} {hF : AH} (x0 : Int32) (x1 : Int32) (h : AH) (e : f_X3_dropAt x0 x1 h = some (r, hF)) : V (G_X3_dropAt D l as h0 hF (oI r)) h 0 [(0, .int x0), (1, .int x1)] [] := by
  unfold f_X3_dropAt at e
  refine v_sipush (pc' := 3) (v := 253) hc_X3_dropAt dX3_dropAt_0 rfl rfl ?_
  refine v_bipush (pc' := 5) (v := 90) hc_X3_dropAt dX3_dropAt_3 rfl rfl ?_
  refine v_iload_n (pc' := 6) hc_X3_dropAt dX3_dropAt_5 rfl rfl 0 rfl ?_
  refine v_imul (pc' := 7) hc_X3_dropAt dX3_dropAt_6 rfl ?_
  refine v_iadd (pc' := 8) hc_X3_dropAt dX3_dropAt_7 rfl ?_
  refine v_iconst (pc' := 9) (v := 3) hc_X3_dropAt dX3_dropAt_8 rfl rfl ?_
  refine v_iload_n (pc' := 10) hc_X3_dropAt dX3_dropAt_9 rfl rfl 1 rfl ?_
  refine v_imul (pc' := 11) hc_X3_dropAt dX3_dropAt_10 rfl ?_
  refine v_iadd (pc' := 12) hc_X3_dropAt dX3_dropAt_11 rfl ?_
  obtain ⟨rfl, rfl⟩ := ret_of e
  exact v_iret hc_X3_dropAt rfl dX3_dropAt_12 rfl rfl
theorem w_X3_dropAt (D : va_G) (l : Launch) (hl : l.stackTraces = false) (x0 : Int32) (x1 : Int32) (h : AH) {r : Int32} {hF : AH} (e : f_X3_dropAt x0 x1 h = some (r, hF)) : MetV D l yX3_dropAt (Cond.code yX3_dropAt cX3_dropAt 2 (Option.some .int)) 1 48 [.int x0, .int x1] h hF (oI r) :=
  met_ofF (by decide +kernel) hl (Nat.le_of_ble_eq_true rfl) rfl (v_X3_dropAt D l hl [.int x0, .int x1] h x0 x1 h e)
/-! BlockPapersModel.hangingOf(I)I  -/
abbrev G_X3_hangingOf (D : va_G) (l : Launch) (as : List Value) (h0 hF : AH) (o : Out) : CT := (D, l, (yX3_hangingOf.cls, yX3_hangingOf, cX3_hangingOf, 5, (Option.some .int), 2, 70, []), as, h0, hF, o)
theorem hc_X3_hangingOf {D : va_G} {l : Launch} {as : List Value} {h0 hF : AH} {o : Out} : gC (G_X3_hangingOf D l as h0 hF o) = cX3_hangingOf := rfl
theorem ho_X3_hangingOf {D : va_G} {l : Launch} {as : List Value} {h0 hF : AH} {o : Out} : gO (G_X3_hangingOf D l as h0 hF o) = "BlockPapersModel" := rfl
theorem hp_X3_hangingOf {D : va_G} {l : Launch} {as : List Value} {h0 hF : AH} {o : Out} (pc : Nat) : ∀ z ∈ tableOf (gHd (G_X3_hangingOf D l as h0 hF o)), covers z pc = false := hpN
def fb_X3_hangingOf_l17 (rec : Nat → Int32 → Int32 → Int32 → Int32 → AH → Option (Int32 × AH)) (rec4 : Nat → Int32 → Int32 → Int32 → AH → Option (Int32 × AH)) (x0 : Nat) (x1 : Int32) (x2 : Int32) (x3 : Int32) (x4 : Int32) (h : AH) : Option (Int32 × AH) :=
  gd (isC h 2 x0) <|
  bd2 (f_X3_roomRow x0 x3 (2 : Int32) h) fun r2 h3 =>
  if r2 ≤ x4 then (
    rec4 x0 x1 x2 (x3 + 1) h3
  ) else (
    bd (gtR h3 2 x0 1) fun v5 =>
    bd2 (f_X3_dropAt x3 x4 h3) fun r6 h7 =>
    bd (ldI h7 0 v5 r6) fun v9 =>
    if v9 = x1 then (
      rec x0 x1 (x2 + (1 : Int32)) x3 (x4 + 1) h7
    ) else (
      rec x0 x1 (x2 + (0 : Int32)) x3 (x4 + 1) h7
    )
  )
def f_X3_hangingOf_l17 (rec4 : Nat → Int32 → Int32 → Int32 → AH → Option (Int32 × AH)) : Nat → Nat → Int32 → Int32 → Int32 → Int32 → AH → Option (Int32 × AH)
  | 0 => fun _ _ _ _ _ _ => none
  | n + 1 => fb_X3_hangingOf_l17 (f_X3_hangingOf_l17 rec4 n) rec4
theorem w_X3_hangingOf_l17 (D : va_G) (l : Launch) (hl : l.stackTraces = false) (as : List Value) (h0 : AH) {r : Int32} {hF : AH} (rec4 : Nat → Int32 → Int32 → Int32 → AH → Option (Int32 × AH)) (R4 : ∀ x0 x1 x2 x3 k, rec4 x0 x1 x2 x3 k = some (r, hF) → V (G_X3_hangingOf D l as h0 hF (oI r)) k 4 [(0, .ref x0), (1, .int x1), (2, .int x2), (3, .int x3)] []) : ∀ (n : Nat) (x0 : Nat) (x1 : Int32) (x2 : Int32) (x3 : Int32) (x4 : Int32) (h : AH), f_X3_hangingOf_l17 rec4 n x0 x1 x2 x3 x4 h = some (r, hF) → V (G_X3_hangingOf D l as h0 hF (oI r)) h 17 [(0, .ref x0), (1, .int x1), (2, .int x2), (3, .int x3), (4, .int x4)] [] := by
  intro n; induction n with
  | zero => intro x0 x1 x2 x3 x4 h e; exact absurd (show (none : Option (Int32 × AH)) = some _ from e) (fun z => nomatch z)
  | succ n IH =>
    intro x0 x1 x2 x3 x4 h e
    have e : fb_X3_hangingOf_l17 (f_X3_hangingOf_l17 rec4 n) rec4 x0 x1 x2 x3 x4 h = some (r, hF) := e
    unfold fb_X3_hangingOf_l17 at e
    refine v_iload (pc' := 19) hc_X3_hangingOf dX3_hangingOf_17 rfl 4 rfl ?_
    refine v_aload_n (pc' := 20) hc_X3_hangingOf dX3_hangingOf_19 rfl rfl 0 rfl ?_
    refine v_iload_n (pc' := 21) hc_X3_hangingOf dX3_hangingOf_20 rfl rfl 3 rfl ?_
    refine v_iconst (pc' := 22) (v := 2) hc_X3_hangingOf dX3_hangingOf_21 rfl rfl ?_
    obtain ⟨c1, e⟩ := gd_of e
    obtain ⟨r2, h3, e4, e⟩ := bd2_of e
    refine k_V (pc' := 25) (ci := 2) (n := 2) hc_X3_hangingOf ho_X3_hangingOf rfl c1 (w_X3_roomRow D l hl x0 x3 (2 : Int32) h e4) (wA_l q2435) q2437 (wA_l qs44) q85 q2438 hy_168 ⟨Nat.le_of_ble_eq_true rfl, Nat.le_of_ble_eq_true rfl⟩ rfl rfl (Nat.le_of_ble_eq_true rfl) dX3_hangingOf_22 rfl (kS ?_) kN
    refine v_icmp_ge (pt := 57) (pf := 28) hc_X3_hangingOf dX3_hangingOf_25 rfl rfl e (fun _ e => ?_) (fun _ e => ?_)
    · refine v_iinc (pc' := 60) (lv' := [(3, .int (x3 + 1)), (0, .ref x0), (1, .int x1), (2, .int x2), (4, .int x4)]) (v := x3 + 1) hc_X3_hangingOf dX3_hangingOf_57 rfl 3 rfl rfl (Nat.le_of_ble_eq_true rfl) rfl ?_
      refine v_goto (pt := 4) hc_X3_hangingOf dX3_hangingOf_60 rfl ?_
      refine v_pick [1, 2, 3, 0] rfl ?_
      exact R4 x0 x1 x2 (x3 + 1) h3 e
    · refine v_iload_n (pc' := 29) hc_X3_hangingOf dX3_hangingOf_28 rfl rfl 2 rfl ?_
      refine v_aload_n (pc' := 30) hc_X3_hangingOf dX3_hangingOf_29 rfl rfl 0 rfl ?_
      refine v_gfR (pc' := 33) hc_X3_hangingOf ho_X3_hangingOf KX3 1 (Nat.le_of_ble_eq_true rfl) q2243 (Or.inl rfl) dX3_hangingOf_30 rfl e (fun v5 _ e => ?_)
      refine v_iload_n (pc' := 34) hc_X3_hangingOf dX3_hangingOf_33 rfl rfl 3 rfl ?_
      refine v_iload (pc' := 36) hc_X3_hangingOf dX3_hangingOf_34 rfl 4 rfl ?_
      obtain ⟨r6, h7, e8, e⟩ := bd2_of e
      refine k_S (pc' := 39) (n := 2) hc_X3_hangingOf ho_X3_hangingOf (w_X3_dropAt D l hl x3 x4 h3 e8) (wA_l q2439) q2440 q85 q2441 hy_169 ⟨Nat.le_of_ble_eq_true rfl, Nat.le_of_ble_eq_true rfl⟩ rfl rfl (Nat.le_of_ble_eq_true rfl) dX3_hangingOf_36 rfl (kS ?_) kN
      refine v_iald (pc' := 40) hc_X3_hangingOf dX3_hangingOf_39 rfl e (fun v9 _ e => ?_)
      refine v_iload_n (pc' := 41) hc_X3_hangingOf dX3_hangingOf_40 rfl rfl 1 rfl ?_
      refine v_icmp_ne (pt := 48) (pf := 44) hc_X3_hangingOf dX3_hangingOf_41 rfl rfl e (fun _ e => ?_) (fun _ e => ?_)
      · refine v_iconst (pc' := 45) (v := 1) hc_X3_hangingOf dX3_hangingOf_44 rfl rfl ?_
        refine v_goto (pt := 49) hc_X3_hangingOf dX3_hangingOf_45 rfl ?_
        refine v_iadd (pc' := 50) hc_X3_hangingOf dX3_hangingOf_49 rfl ?_
        refine v_istore_n (pc' := 51) (lv' := [(2, .int (x2 + (1 : Int32))), (0, .ref x0), (1, .int x1), (3, .int x3), (4, .int x4)]) hc_X3_hangingOf dX3_hangingOf_50 rfl rfl (Nat.le_of_ble_eq_true rfl) rfl ?_
        refine v_iinc (pc' := 54) (lv' := [(4, .int (x4 + 1)), (2, .int (x2 + (1 : Int32))), (0, .ref x0), (1, .int x1), (3, .int x3)]) (v := x4 + 1) hc_X3_hangingOf dX3_hangingOf_51 rfl 4 rfl rfl (Nat.le_of_ble_eq_true rfl) rfl ?_
        refine v_goto (pt := 17) hc_X3_hangingOf dX3_hangingOf_54 rfl ?_
        refine v_pick [2, 3, 1, 4, 0] rfl ?_
        exact IH x0 x1 (x2 + (1 : Int32)) x3 (x4 + 1) h7 e
      · refine v_iconst (pc' := 49) (v := 0) hc_X3_hangingOf dX3_hangingOf_48 rfl rfl ?_
        refine v_iadd (pc' := 50) hc_X3_hangingOf dX3_hangingOf_49 rfl ?_
        refine v_istore_n (pc' := 51) (lv' := [(2, .int (x2 + (0 : Int32))), (0, .ref x0), (1, .int x1), (3, .int x3), (4, .int x4)]) hc_X3_hangingOf dX3_hangingOf_50 rfl rfl (Nat.le_of_ble_eq_true rfl) rfl ?_
        refine v_iinc (pc' := 54) (lv' := [(4, .int (x4 + 1)), (2, .int (x2 + (0 : Int32))), (0, .ref x0), (1, .int x1), (3, .int x3)]) (v := x4 + 1) hc_X3_hangingOf dX3_hangingOf_51 rfl 4 rfl rfl (Nat.le_of_ble_eq_true rfl) rfl ?_
        refine v_goto (pt := 17) hc_X3_hangingOf dX3_hangingOf_54 rfl ?_
        refine v_pick [2, 3, 1, 4, 0] rfl ?_
        exact IH x0 x1 (x2 + (0 : Int32)) x3 (x4 + 1) h7 e
def fb_X3_hangingOf_l4 (rec : Nat → Int32 → Int32 → Int32 → AH → Option (Int32 × AH)) (x0 : Nat) (x1 : Int32) (x2 : Int32) (x3 : Int32) (h : AH) : Option (Int32 × AH) :=
  bd (gtR h 2 x0 1) fun v1 =>
  bd (ldI h 0 v1 (3 : Int32)) fun v2 =>
  if v2 ≤ x3 then (
    some (x2, h)
  ) else (
    f_X3_hangingOf_l17 rec NN x0 x1 x2 x3 (0 : Int32) h
  )
def f_X3_hangingOf_l4 : Nat → Nat → Int32 → Int32 → Int32 → AH → Option (Int32 × AH)
  | 0 => fun _ _ _ _ _ => none
  | n + 1 => fb_X3_hangingOf_l4 (f_X3_hangingOf_l4 n) 
theorem w_X3_hangingOf_l4 (D : va_G) (l : Launch) (hl : l.stackTraces = false) (as : List Value) (h0 : AH) {r : Int32} {hF : AH} : ∀ (n : Nat) (x0 : Nat) (x1 : Int32) (x2 : Int32) (x3 : Int32) (h : AH), f_X3_hangingOf_l4 n x0 x1 x2 x3 h = some (r, hF) → V (G_X3_hangingOf D l as h0 hF (oI r)) h 4 [(0, .ref x0), (1, .int x1), (2, .int x2), (3, .int x3)] [] := by
  intro n; induction n with
  | zero => intro x0 x1 x2 x3 h e; exact absurd (show (none : Option (Int32 × AH)) = some _ from e) (fun z => nomatch z)
  | succ n IH =>
    intro x0 x1 x2 x3 h e
    have e : fb_X3_hangingOf_l4 (f_X3_hangingOf_l4 n) x0 x1 x2 x3 h = some (r, hF) := e
    unfold fb_X3_hangingOf_l4 at e
    refine v_iload_n (pc' := 5) hc_X3_hangingOf dX3_hangingOf_4 rfl rfl 3 rfl ?_
    refine v_aload_n (pc' := 6) hc_X3_hangingOf dX3_hangingOf_5 rfl rfl 0 rfl ?_
    refine v_gfR (pc' := 9) hc_X3_hangingOf ho_X3_hangingOf KX3 1 (Nat.le_of_ble_eq_true rfl) q2243 (Or.inl rfl) dX3_hangingOf_6 rfl e (fun v1 _ e => ?_)
    refine v_iconst (pc' := 10) (v := 3) hc_X3_hangingOf dX3_hangingOf_9 rfl rfl ?_
    refine v_iald (pc' := 11) hc_X3_hangingOf dX3_hangingOf_10 rfl e (fun v2 _ e => ?_)
    refine v_icmp_ge (pt := 63) (pf := 14) hc_X3_hangingOf dX3_hangingOf_11 rfl rfl e (fun _ e => ?_) (fun _ e => ?_)
    · refine v_iload_n (pc' := 64) hc_X3_hangingOf dX3_hangingOf_63 rfl rfl 2 rfl ?_
      obtain ⟨rfl, rfl⟩ := ret_of e
      exact v_iret hc_X3_hangingOf rfl dX3_hangingOf_64 rfl rfl
    · refine v_iconst (pc' := 15) (v := 0) hc_X3_hangingOf dX3_hangingOf_14 rfl rfl ?_
      refine v_istore (pc' := 17) (lv' := [(4, .int (0 : Int32)), (0, .ref x0), (1, .int x1), (2, .int x2), (3, .int x3)]) hc_X3_hangingOf dX3_hangingOf_15 rfl (Nat.le_of_ble_eq_true rfl) rfl ?_
      refine v_pick [1, 2, 3, 4, 0] rfl ?_
      exact w_X3_hangingOf_l17 D l hl as h0 (f_X3_hangingOf_l4 n) IH NN x0 x1 x2 x3 (0 : Int32) h e
def f_X3_hangingOf (x0 : Nat) (x1 : Int32) (h : AH) : Option (Int32 × AH) :=
  f_X3_hangingOf_l4 NN x0 x1 (0 : Int32) (0 : Int32) h
theorem v_X3_hangingOf (D : va_G) (l : Launch) (hl : l.stackTraces = false) (as : List Value) (h0 : AH) {r : Int32} {hF : AH} (x0 : Nat) (x1 : Int32) (h : AH) (e : f_X3_hangingOf x0 x1 h = some (r, hF)) : V (G_X3_hangingOf D l as h0 hF (oI r)) h 0 [(0, .ref x0), (1, .int x1)] [] := by
  unfold f_X3_hangingOf at e
  refine v_iconst (pc' := 1) (v := 0) hc_X3_hangingOf dX3_hangingOf_0 rfl rfl ?_
  refine v_istore_n (pc' := 2) (lv' := [(2, .int (0 : Int32)), (0, .ref x0), (1, .int x1)]) hc_X3_hangingOf dX3_hangingOf_1 rfl rfl (Nat.le_of_ble_eq_true rfl) rfl ?_
  refine v_iconst (pc' := 3) (v := 0) hc_X3_hangingOf dX3_hangingOf_2 rfl rfl ?_
  refine v_istore_n (pc' := 4) (lv' := [(3, .int (0 : Int32)), (2, .int (0 : Int32)), (0, .ref x0), (1, .int x1)]) hc_X3_hangingOf dX3_hangingOf_3 rfl rfl (Nat.le_of_ble_eq_true rfl) rfl ?_
  refine v_pick [2, 3, 1, 0] rfl ?_
  exact w_X3_hangingOf_l4 D l hl as h0 NN x0 x1 (0 : Int32) (0 : Int32) h e
theorem w_X3_hangingOf (D : va_G) (l : Launch) (hl : l.stackTraces = false) (x0 : Nat) (x1 : Int32) (h : AH) {r : Int32} {hF : AH} (e : f_X3_hangingOf x0 x1 h = some (r, hF)) : MetV D l yX3_hangingOf (Cond.code yX3_hangingOf cX3_hangingOf 5 (Option.some .int)) 2 70 [.ref x0, .int x1] h hF (oI r) :=
  met_ofF (by decide +kernel) hl (Nat.le_of_ble_eq_true rfl) rfl (v_X3_hangingOf D l hl [.ref x0, .int x1] h x0 x1 h e)
/-! BlockPapersModel.rollOf(II)I  -/
abbrev G_X3_rollOf (D : va_G) (l : Launch) (as : List Value) (h0 hF : AH) (o : Out) : CT := (D, l, (yX3_rollOf.cls, yX3_rollOf, cX3_rollOf, 3, (Option.some .int), 3, 94, []), as, h0, hF, o)
theorem hc_X3_rollOf {D : va_G} {l : Launch} {as : List Value} {h0 hF : AH} {o : Out} : gC (G_X3_rollOf D l as h0 hF o) = cX3_rollOf := rfl
theorem ho_X3_rollOf {D : va_G} {l : Launch} {as : List Value} {h0 hF : AH} {o : Out} : gO (G_X3_rollOf D l as h0 hF o) = "BlockPapersModel" := rfl
theorem hp_X3_rollOf {D : va_G} {l : Launch} {as : List Value} {h0 hF : AH} {o : Out} (pc : Nat) : ∀ z ∈ tableOf (gHd (G_X3_rollOf D l as h0 hF o)), covers z pc = false := hpN
def f_X3_rollOf (x0 : Nat) (x1 : Int32) (x2 : Int32) (h : AH) : Option (Int32 × AH) :=
  bd (stF h 2 x0 0 (.int (0 : Int32))) fun h1 =>
  gd (isC h1 2 x0) <|
  bd2 (f_X3_isRoll x0 x1 h1) fun r3 h4 =>
  if r3 = 0 then (
    gd (isC h4 2 x0) <|
    bd2 (f_X3_fails x0 (1 : Int32) h4) fun r7 h8 =>
    some (r7, h8)
  ) else (
    if x2 = 0 then (
      gd (isC h4 2 x0) <|
      bd2 (f_X3_rollRow x0 x1 x2 h4) fun r11 h12 =>
      some (r11, h12)
    ) else (
    if x2 = 1 then (
      gd (isC h4 2 x0) <|
      bd2 (f_X3_rollRow x0 x1 x2 h4) fun r16 h17 =>
      some (r16, h17)
    ) else (
    if x2 = 2 then (
      gd (isC h4 2 x0) <|
      bd2 (f_X3_rollRow x0 x1 x2 h4) fun r21 h22 =>
      some (r21, h22)
    ) else (
    if x2 = 3 then (
      gd (isC h4 2 x0) <|
      bd2 (f_X3_rollRow x0 x1 x2 h4) fun r26 h27 =>
      some (r26, h27)
    ) else (
    if x2 = 4 then (
      gd (isC h4 2 x0) <|
      bd2 (f_X3_colourOf x0 x1 h4) fun r31 h32 =>
      some (r31, h32)
    ) else (
    if x2 = 5 then (
      gd (isC h4 2 x0) <|
      bd2 (f_X3_rollRow x0 x1 (4 : Int32) h4) fun r36 h37 =>
      some (r36, h37)
    ) else (
    if x2 = 6 then (
      gd (isC h4 2 x0) <|
      bd2 (f_X3_leftOf x0 x1 h4) fun r41 h42 =>
      some (r41, h42)
    ) else (
    if x2 = 7 then (
      gd (isC h4 2 x0) <|
      bd2 (f_X3_rollRow x0 x1 (5 : Int32) h4) fun r46 h47 =>
      some (r46, h47)
    ) else (
    if x2 = 8 then (
      gd (isC h4 2 x0) <|
      bd2 (f_X3_hangingOf x0 x1 h4) fun r51 h52 =>
      some (r51, h52)
    ) else (
    gd (isC h4 2 x0) <|
    bd2 (f_X3_fails x0 (2 : Int32) h4) fun r56 h57 =>
    some (r56, h57)
    )))))))))
  )
theorem v_X3_rollOf (D : va_G) (l : Launch) (hl : l.stackTraces = false) (as : List Value) (h0 : AH) {r : Int32} {hF : AH} (x0 : Nat) (x1 : Int32) (x2 : Int32) (h : AH) (e : f_X3_rollOf x0 x1 x2 h = some (r, hF)) : V (G_X3_rollOf D l as h0 hF (oI r)) h 0 [(0, .ref x0), (1, .int x1), (2, .int x2)] [] := by
  unfold f_X3_rollOf at e
  refine v_aload_n (pc' := 1) hc_X3_rollOf dX3_rollOf_0 rfl rfl 0 rfl ?_
  refine v_iconst (pc' := 2) (v := 0) hc_X3_rollOf dX3_rollOf_1 rfl rfl ?_
  refine v_pf (pc' := 5) hc_X3_rollOf ho_X3_rollOf KX3 0 (Nat.le_of_ble_eq_true rfl) q2242 (Or.inl rfl) rfl dX3_rollOf_2 rfl rfl rfl e (fun h1 _ e => ?_)
  refine v_aload_n (pc' := 6) hc_X3_rollOf dX3_rollOf_5 rfl rfl 0 rfl ?_
  refine v_iload_n (pc' := 7) hc_X3_rollOf dX3_rollOf_6 rfl rfl 1 rfl ?_
  obtain ⟨c2, e⟩ := gd_of e
  obtain ⟨r3, h4, e5, e⟩ := bd2_of e
  refine k_V (pc' := 10) (ci := 2) (n := 1) hc_X3_rollOf ho_X3_rollOf rfl c2 (w_X3_isRoll D l hl x0 x1 h1 e5) (wA_l q2415) q2417 (wA_l qs39) q85 q2418 hy_164 ⟨Nat.le_of_ble_eq_true rfl, Nat.le_of_ble_eq_true rfl⟩ rfl rfl (Nat.le_of_ble_eq_true rfl) dX3_rollOf_7 rfl (kS ?_) kN
  refine v_if_ne (pt := 19) (pf := 13) hc_X3_rollOf dX3_rollOf_10 rfl rfl e (fun _ e => ?_) (fun _ e => ?_)
  · refine v_aload_n (pc' := 14) hc_X3_rollOf dX3_rollOf_13 rfl rfl 0 rfl ?_
    refine v_iconst (pc' := 15) (v := 1) hc_X3_rollOf dX3_rollOf_14 rfl rfl ?_
    obtain ⟨c6, e⟩ := gd_of e
    obtain ⟨r7, h8, e9, e⟩ := bd2_of e
    refine k_V (pc' := 18) (ci := 2) (n := 1) hc_X3_rollOf ho_X3_rollOf rfl c6 (w_X3_fails D l hl x0 (1 : Int32) h4 e9) (wA_l q2351) q2353 (wA_l qs30) q85 q2354 hy_119 ⟨Nat.le_of_ble_eq_true rfl, Nat.le_of_ble_eq_true rfl⟩ rfl rfl (Nat.le_of_ble_eq_true rfl) dX3_rollOf_15 rfl (kS ?_) kN
    obtain ⟨rfl, rfl⟩ := ret_of e
    exact v_iret hc_X3_rollOf rfl dX3_rollOf_18 rfl rfl
  · refine v_iload_n (pc' := 20) hc_X3_rollOf dX3_rollOf_19 rfl rfl 2 rfl ?_
    rcases ite_cs e with ⟨n14, e⟩ | ⟨n14, e⟩
    · refine v_tbl (off := 52) (pt := 72) hc_X3_rollOf dX3_rollOf_20 rfl rfl (by rw [n14]; rfl) rfl ?_
      refine v_aload_n (pc' := 73) hc_X3_rollOf dX3_rollOf_72 rfl rfl 0 rfl ?_
      refine v_iload_n (pc' := 74) hc_X3_rollOf dX3_rollOf_73 rfl rfl 1 rfl ?_
      refine v_iload_n (pc' := 75) hc_X3_rollOf dX3_rollOf_74 rfl rfl 2 rfl ?_
      obtain ⟨c10, e⟩ := gd_of e
      obtain ⟨r11, h12, e13, e⟩ := bd2_of e
      refine k_V (pc' := 78) (ci := 2) (n := 2) hc_X3_rollOf ho_X3_rollOf rfl c10 (w_X3_rollRow D l hl x0 x1 x2 h4 e13) (wA_l q2419) q2421 (wA_l qs40) q85 q2422 hy_165 ⟨Nat.le_of_ble_eq_true rfl, Nat.le_of_ble_eq_true rfl⟩ rfl rfl (Nat.le_of_ble_eq_true rfl) dX3_rollOf_75 rfl (kS ?_) kN
      obtain ⟨rfl, rfl⟩ := ret_of e
      exact v_iret hc_X3_rollOf rfl dX3_rollOf_78 rfl rfl
    rcases ite_cs e with ⟨n19, e⟩ | ⟨n19, e⟩
    · refine v_tbl (off := 52) (pt := 72) hc_X3_rollOf dX3_rollOf_20 rfl rfl (by rw [n19]; rfl) rfl ?_
      refine v_aload_n (pc' := 73) hc_X3_rollOf dX3_rollOf_72 rfl rfl 0 rfl ?_
      refine v_iload_n (pc' := 74) hc_X3_rollOf dX3_rollOf_73 rfl rfl 1 rfl ?_
      refine v_iload_n (pc' := 75) hc_X3_rollOf dX3_rollOf_74 rfl rfl 2 rfl ?_
      obtain ⟨c15, e⟩ := gd_of e
      obtain ⟨r16, h17, e18, e⟩ := bd2_of e
      refine k_V (pc' := 78) (ci := 2) (n := 2) hc_X3_rollOf ho_X3_rollOf rfl c15 (w_X3_rollRow D l hl x0 x1 x2 h4 e18) (wA_l q2419) q2421 (wA_l qs40) q85 q2422 hy_165 ⟨Nat.le_of_ble_eq_true rfl, Nat.le_of_ble_eq_true rfl⟩ rfl rfl (Nat.le_of_ble_eq_true rfl) dX3_rollOf_75 rfl (kS ?_) kN
      obtain ⟨rfl, rfl⟩ := ret_of e
      exact v_iret hc_X3_rollOf rfl dX3_rollOf_78 rfl rfl
    rcases ite_cs e with ⟨n24, e⟩ | ⟨n24, e⟩
    · refine v_tbl (off := 52) (pt := 72) hc_X3_rollOf dX3_rollOf_20 rfl rfl (by rw [n24]; rfl) rfl ?_
      refine v_aload_n (pc' := 73) hc_X3_rollOf dX3_rollOf_72 rfl rfl 0 rfl ?_
      refine v_iload_n (pc' := 74) hc_X3_rollOf dX3_rollOf_73 rfl rfl 1 rfl ?_
      refine v_iload_n (pc' := 75) hc_X3_rollOf dX3_rollOf_74 rfl rfl 2 rfl ?_
      obtain ⟨c20, e⟩ := gd_of e
      obtain ⟨r21, h22, e23, e⟩ := bd2_of e
      refine k_V (pc' := 78) (ci := 2) (n := 2) hc_X3_rollOf ho_X3_rollOf rfl c20 (w_X3_rollRow D l hl x0 x1 x2 h4 e23) (wA_l q2419) q2421 (wA_l qs40) q85 q2422 hy_165 ⟨Nat.le_of_ble_eq_true rfl, Nat.le_of_ble_eq_true rfl⟩ rfl rfl (Nat.le_of_ble_eq_true rfl) dX3_rollOf_75 rfl (kS ?_) kN
      obtain ⟨rfl, rfl⟩ := ret_of e
      exact v_iret hc_X3_rollOf rfl dX3_rollOf_78 rfl rfl
    rcases ite_cs e with ⟨n29, e⟩ | ⟨n29, e⟩
    · refine v_tbl (off := 52) (pt := 72) hc_X3_rollOf dX3_rollOf_20 rfl rfl (by rw [n29]; rfl) rfl ?_
      refine v_aload_n (pc' := 73) hc_X3_rollOf dX3_rollOf_72 rfl rfl 0 rfl ?_
      refine v_iload_n (pc' := 74) hc_X3_rollOf dX3_rollOf_73 rfl rfl 1 rfl ?_
      refine v_iload_n (pc' := 75) hc_X3_rollOf dX3_rollOf_74 rfl rfl 2 rfl ?_
      obtain ⟨c25, e⟩ := gd_of e
      obtain ⟨r26, h27, e28, e⟩ := bd2_of e
      refine k_V (pc' := 78) (ci := 2) (n := 2) hc_X3_rollOf ho_X3_rollOf rfl c25 (w_X3_rollRow D l hl x0 x1 x2 h4 e28) (wA_l q2419) q2421 (wA_l qs40) q85 q2422 hy_165 ⟨Nat.le_of_ble_eq_true rfl, Nat.le_of_ble_eq_true rfl⟩ rfl rfl (Nat.le_of_ble_eq_true rfl) dX3_rollOf_75 rfl (kS ?_) kN
      obtain ⟨rfl, rfl⟩ := ret_of e
      exact v_iret hc_X3_rollOf rfl dX3_rollOf_78 rfl rfl
    rcases ite_cs e with ⟨n34, e⟩ | ⟨n34, e⟩
    · refine v_tbl (off := 59) (pt := 79) hc_X3_rollOf dX3_rollOf_20 rfl rfl (by rw [n34]; rfl) rfl ?_
      refine v_aload_n (pc' := 80) hc_X3_rollOf dX3_rollOf_79 rfl rfl 0 rfl ?_
      refine v_iload_n (pc' := 81) hc_X3_rollOf dX3_rollOf_80 rfl rfl 1 rfl ?_
      obtain ⟨c30, e⟩ := gd_of e
      obtain ⟨r31, h32, e33, e⟩ := bd2_of e
      refine k_V (pc' := 84) (ci := 2) (n := 1) hc_X3_rollOf ho_X3_rollOf rfl c30 (w_X3_colourOf D l hl x0 x1 h4 e33) (wA_l q2423) q2425 (wA_l qs41) q85 q2426 hy_166 ⟨Nat.le_of_ble_eq_true rfl, Nat.le_of_ble_eq_true rfl⟩ rfl rfl (Nat.le_of_ble_eq_true rfl) dX3_rollOf_81 rfl (kS ?_) kN
      obtain ⟨rfl, rfl⟩ := ret_of e
      exact v_iret hc_X3_rollOf rfl dX3_rollOf_84 rfl rfl
    rcases ite_cs e with ⟨n39, e⟩ | ⟨n39, e⟩
    · refine v_tbl (off := 65) (pt := 85) hc_X3_rollOf dX3_rollOf_20 rfl rfl (by rw [n39]; rfl) rfl ?_
      refine v_aload_n (pc' := 86) hc_X3_rollOf dX3_rollOf_85 rfl rfl 0 rfl ?_
      refine v_iload_n (pc' := 87) hc_X3_rollOf dX3_rollOf_86 rfl rfl 1 rfl ?_
      refine v_iconst (pc' := 88) (v := 4) hc_X3_rollOf dX3_rollOf_87 rfl rfl ?_
      obtain ⟨c35, e⟩ := gd_of e
      obtain ⟨r36, h37, e38, e⟩ := bd2_of e
      refine k_V (pc' := 91) (ci := 2) (n := 2) hc_X3_rollOf ho_X3_rollOf rfl c35 (w_X3_rollRow D l hl x0 x1 (4 : Int32) h4 e38) (wA_l q2419) q2421 (wA_l qs40) q85 q2422 hy_165 ⟨Nat.le_of_ble_eq_true rfl, Nat.le_of_ble_eq_true rfl⟩ rfl rfl (Nat.le_of_ble_eq_true rfl) dX3_rollOf_88 rfl (kS ?_) kN
      obtain ⟨rfl, rfl⟩ := ret_of e
      exact v_iret hc_X3_rollOf rfl dX3_rollOf_91 rfl rfl
    rcases ite_cs e with ⟨n44, e⟩ | ⟨n44, e⟩
    · refine v_tbl (off := 72) (pt := 92) hc_X3_rollOf dX3_rollOf_20 rfl rfl (by rw [n44]; rfl) rfl ?_
      refine v_aload_n (pc' := 93) hc_X3_rollOf dX3_rollOf_92 rfl rfl 0 rfl ?_
      refine v_iload_n (pc' := 94) hc_X3_rollOf dX3_rollOf_93 rfl rfl 1 rfl ?_
      obtain ⟨c40, e⟩ := gd_of e
      obtain ⟨r41, h42, e43, e⟩ := bd2_of e
      refine k_V (pc' := 97) (ci := 2) (n := 1) hc_X3_rollOf ho_X3_rollOf rfl c40 (w_X3_leftOf D l hl x0 x1 h4 e43) (wA_l q2427) q2429 (wA_l qs42) q85 q2430 hy_167 ⟨Nat.le_of_ble_eq_true rfl, Nat.le_of_ble_eq_true rfl⟩ rfl rfl (Nat.le_of_ble_eq_true rfl) dX3_rollOf_94 rfl (kS ?_) kN
      obtain ⟨rfl, rfl⟩ := ret_of e
      exact v_iret hc_X3_rollOf rfl dX3_rollOf_97 rfl rfl
    rcases ite_cs e with ⟨n49, e⟩ | ⟨n49, e⟩
    · refine v_tbl (off := 78) (pt := 98) hc_X3_rollOf dX3_rollOf_20 rfl rfl (by rw [n49]; rfl) rfl ?_
      refine v_aload_n (pc' := 99) hc_X3_rollOf dX3_rollOf_98 rfl rfl 0 rfl ?_
      refine v_iload_n (pc' := 100) hc_X3_rollOf dX3_rollOf_99 rfl rfl 1 rfl ?_
      refine v_iconst (pc' := 101) (v := 5) hc_X3_rollOf dX3_rollOf_100 rfl rfl ?_
      obtain ⟨c45, e⟩ := gd_of e
      obtain ⟨r46, h47, e48, e⟩ := bd2_of e
      refine k_V (pc' := 104) (ci := 2) (n := 2) hc_X3_rollOf ho_X3_rollOf rfl c45 (w_X3_rollRow D l hl x0 x1 (5 : Int32) h4 e48) (wA_l q2419) q2421 (wA_l qs40) q85 q2422 hy_165 ⟨Nat.le_of_ble_eq_true rfl, Nat.le_of_ble_eq_true rfl⟩ rfl rfl (Nat.le_of_ble_eq_true rfl) dX3_rollOf_101 rfl (kS ?_) kN
      obtain ⟨rfl, rfl⟩ := ret_of e
      exact v_iret hc_X3_rollOf rfl dX3_rollOf_104 rfl rfl
    rcases ite_cs e with ⟨n54, e⟩ | ⟨n54, e⟩
    · refine v_tbl (off := 85) (pt := 105) hc_X3_rollOf dX3_rollOf_20 rfl rfl (by rw [n54]; rfl) rfl ?_
      refine v_aload_n (pc' := 106) hc_X3_rollOf dX3_rollOf_105 rfl rfl 0 rfl ?_
      refine v_iload_n (pc' := 107) hc_X3_rollOf dX3_rollOf_106 rfl rfl 1 rfl ?_
      obtain ⟨c50, e⟩ := gd_of e
      obtain ⟨r51, h52, e53, e⟩ := bd2_of e
      refine k_V (pc' := 110) (ci := 2) (n := 1) hc_X3_rollOf ho_X3_rollOf rfl c50 (w_X3_hangingOf D l hl x0 x1 h4 e53) (wA_l q2431) q2433 (wA_l qs43) q85 q2434 hy_170 ⟨Nat.le_of_ble_eq_true rfl, Nat.le_of_ble_eq_true rfl⟩ rfl rfl (Nat.le_of_ble_eq_true rfl) dX3_rollOf_107 rfl (kS ?_) kN
      obtain ⟨rfl, rfl⟩ := ret_of e
      exact v_iret hc_X3_rollOf rfl dX3_rollOf_110 rfl rfl
    refine v_tbl (off := 91) (pt := 111) hc_X3_rollOf dX3_rollOf_20 rfl rfl (lk_c (lk_n n14 rfl) (lk_c (lk_n n19 rfl) (lk_c (lk_n n24 rfl) (lk_c (lk_n n29 rfl) (lk_c (lk_n n34 rfl) (lk_c (lk_n n39 rfl) (lk_c (lk_n n44 rfl) (lk_c (lk_n n49 rfl) (lk_c (lk_n n54 rfl) lk_z))))))))) rfl ?_
    refine v_aload_n (pc' := 112) hc_X3_rollOf dX3_rollOf_111 rfl rfl 0 rfl ?_
    refine v_iconst (pc' := 113) (v := 2) hc_X3_rollOf dX3_rollOf_112 rfl rfl ?_
    obtain ⟨c55, e⟩ := gd_of e
    obtain ⟨r56, h57, e58, e⟩ := bd2_of e
    refine k_V (pc' := 116) (ci := 2) (n := 1) hc_X3_rollOf ho_X3_rollOf rfl c55 (w_X3_fails D l hl x0 (2 : Int32) h4 e58) (wA_l q2351) q2353 (wA_l qs30) q85 q2354 hy_119 ⟨Nat.le_of_ble_eq_true rfl, Nat.le_of_ble_eq_true rfl⟩ rfl rfl (Nat.le_of_ble_eq_true rfl) dX3_rollOf_113 rfl (kS ?_) kN
    obtain ⟨rfl, rfl⟩ := ret_of e
    exact v_iret hc_X3_rollOf rfl dX3_rollOf_116 rfl rfl
theorem w_X3_rollOf (D : va_G) (l : Launch) (hl : l.stackTraces = false) (x0 : Nat) (x1 : Int32) (x2 : Int32) (h : AH) {r : Int32} {hF : AH} (e : f_X3_rollOf x0 x1 x2 h = some (r, hF)) : MetV D l yX3_rollOf (Cond.code yX3_rollOf cX3_rollOf 3 (Option.some .int)) 3 94 [.ref x0, .int x1, .int x2] h hF (oI r) :=
  met_ofF (by decide +kernel) hl (Nat.le_of_ble_eq_true rfl) rfl (v_X3_rollOf D l hl [.ref x0, .int x1, .int x2] h x0 x1 x2 h e)
/-! BlockPapersModel.latestOf(I)I  -/
abbrev G_X3_latestOf (D : va_G) (l : Launch) (as : List Value) (h0 hF : AH) (o : Out) : CT := (D, l, (yX3_latestOf.cls, yX3_latestOf, cX3_latestOf, 4, (Option.some .int), 2, 70, []), as, h0, hF, o)
theorem hc_X3_latestOf {D : va_G} {l : Launch} {as : List Value} {h0 hF : AH} {o : Out} : gC (G_X3_latestOf D l as h0 hF o) = cX3_latestOf := rfl
theorem ho_X3_latestOf {D : va_G} {l : Launch} {as : List Value} {h0 hF : AH} {o : Out} : gO (G_X3_latestOf D l as h0 hF o) = "BlockPapersModel" := rfl
theorem hp_X3_latestOf {D : va_G} {l : Launch} {as : List Value} {h0 hF : AH} {o : Out} (pc : Nat) : ∀ z ∈ tableOf (gHd (G_X3_latestOf D l as h0 hF o)), covers z pc = false := hpN
def fb_X3_latestOf_l4 (rec : Nat → Int32 → Int32 → Int32 → AH → Option (Int32 × AH)) (x0 : Nat) (x1 : Int32) (x2 : Int32) (x3 : Int32) (h : AH) : Option (Int32 × AH) :=
  bd (gtR h 2 x0 1) fun v1 =>
  bd (ldI h 0 v1 (1 : Int32)) fun v2 =>
  if v2 ≤ x3 then (
    some (x2, h)
  ) else (
    gd (isC h 2 x0) <|
    bd2 (f_X3_inkRow x0 x3 (0 : Int32) h) fun r4 h5 =>
    if r4 = x1 then (
      rec x0 x1 x3 (x3 + 1) h5
    ) else (
      rec x0 x1 x2 (x3 + 1) h5
    )
  )
def f_X3_latestOf_l4 : Nat → Nat → Int32 → Int32 → Int32 → AH → Option (Int32 × AH)
  | 0 => fun _ _ _ _ _ => none
  | n + 1 => fb_X3_latestOf_l4 (f_X3_latestOf_l4 n) 
theorem w_X3_latestOf_l4 (D : va_G) (l : Launch) (hl : l.stackTraces = false) (as : List Value) (h0 : AH) {r : Int32} {hF : AH} : ∀ (n : Nat) (x0 : Nat) (x1 : Int32) (x2 : Int32) (x3 : Int32) (h : AH), f_X3_latestOf_l4 n x0 x1 x2 x3 h = some (r, hF) → V (G_X3_latestOf D l as h0 hF (oI r)) h 4 [(0, .ref x0), (1, .int x1), (2, .int x2), (3, .int x3)] [] := by
  intro n; induction n with
  | zero => intro x0 x1 x2 x3 h e; exact absurd (show (none : Option (Int32 × AH)) = some _ from e) (fun z => nomatch z)
  | succ n IH =>
    intro x0 x1 x2 x3 h e
    have e : fb_X3_latestOf_l4 (f_X3_latestOf_l4 n) x0 x1 x2 x3 h = some (r, hF) := e
    unfold fb_X3_latestOf_l4 at e
    refine v_iload_n (pc' := 5) hc_X3_latestOf dX3_latestOf_4 rfl rfl 3 rfl ?_
    refine v_aload_n (pc' := 6) hc_X3_latestOf dX3_latestOf_5 rfl rfl 0 rfl ?_
    refine v_gfR (pc' := 9) hc_X3_latestOf ho_X3_latestOf KX3 1 (Nat.le_of_ble_eq_true rfl) q2243 (Or.inl rfl) dX3_latestOf_6 rfl e (fun v1 _ e => ?_)
    refine v_iconst (pc' := 10) (v := 1) hc_X3_latestOf dX3_latestOf_9 rfl rfl ?_
    refine v_iald (pc' := 11) hc_X3_latestOf dX3_latestOf_10 rfl e (fun v2 _ e => ?_)
    refine v_icmp_ge (pt := 36) (pf := 14) hc_X3_latestOf dX3_latestOf_11 rfl rfl e (fun _ e => ?_) (fun _ e => ?_)
    · refine v_iload_n (pc' := 37) hc_X3_latestOf dX3_latestOf_36 rfl rfl 2 rfl ?_
      obtain ⟨rfl, rfl⟩ := ret_of e
      exact v_iret hc_X3_latestOf rfl dX3_latestOf_37 rfl rfl
    · refine v_aload_n (pc' := 15) hc_X3_latestOf dX3_latestOf_14 rfl rfl 0 rfl ?_
      refine v_iload_n (pc' := 16) hc_X3_latestOf dX3_latestOf_15 rfl rfl 3 rfl ?_
      refine v_iconst (pc' := 17) (v := 0) hc_X3_latestOf dX3_latestOf_16 rfl rfl ?_
      obtain ⟨c3, e⟩ := gd_of e
      obtain ⟨r4, h5, e6, e⟩ := bd2_of e
      refine k_V (pc' := 20) (ci := 2) (n := 2) hc_X3_latestOf ho_X3_latestOf rfl c3 (w_X3_inkRow D l hl x0 x3 (0 : Int32) h e6) (wA_l q2391) q2393 (wA_l qs36) q85 q2394 hy_145 ⟨Nat.le_of_ble_eq_true rfl, Nat.le_of_ble_eq_true rfl⟩ rfl rfl (Nat.le_of_ble_eq_true rfl) dX3_latestOf_17 rfl (kS ?_) kN
      refine v_iload_n (pc' := 21) hc_X3_latestOf dX3_latestOf_20 rfl rfl 1 rfl ?_
      refine v_icmp_ne (pt := 28) (pf := 24) hc_X3_latestOf dX3_latestOf_21 rfl rfl e (fun _ e => ?_) (fun _ e => ?_)
      · refine v_iload_n (pc' := 25) hc_X3_latestOf dX3_latestOf_24 rfl rfl 3 rfl ?_
        refine v_goto (pt := 29) hc_X3_latestOf dX3_latestOf_25 rfl ?_
        refine v_istore_n (pc' := 30) (lv' := [(2, .int x3), (0, .ref x0), (1, .int x1), (3, .int x3)]) hc_X3_latestOf dX3_latestOf_29 rfl rfl (Nat.le_of_ble_eq_true rfl) rfl ?_
        refine v_iinc (pc' := 33) (lv' := [(3, .int (x3 + 1)), (2, .int x3), (0, .ref x0), (1, .int x1)]) (v := x3 + 1) hc_X3_latestOf dX3_latestOf_30 rfl 3 rfl rfl (Nat.le_of_ble_eq_true rfl) rfl ?_
        refine v_goto (pt := 4) hc_X3_latestOf dX3_latestOf_33 rfl ?_
        refine v_pick [2, 3, 1, 0] rfl ?_
        exact IH x0 x1 x3 (x3 + 1) h5 e
      · refine v_iload_n (pc' := 29) hc_X3_latestOf dX3_latestOf_28 rfl rfl 2 rfl ?_
        refine v_istore_n (pc' := 30) (lv' := [(2, .int x2), (0, .ref x0), (1, .int x1), (3, .int x3)]) hc_X3_latestOf dX3_latestOf_29 rfl rfl (Nat.le_of_ble_eq_true rfl) rfl ?_
        refine v_iinc (pc' := 33) (lv' := [(3, .int (x3 + 1)), (2, .int x2), (0, .ref x0), (1, .int x1)]) (v := x3 + 1) hc_X3_latestOf dX3_latestOf_30 rfl 3 rfl rfl (Nat.le_of_ble_eq_true rfl) rfl ?_
        refine v_goto (pt := 4) hc_X3_latestOf dX3_latestOf_33 rfl ?_
        refine v_pick [2, 3, 1, 0] rfl ?_
        exact IH x0 x1 x2 (x3 + 1) h5 e
def f_X3_latestOf (x0 : Nat) (x1 : Int32) (h : AH) : Option (Int32 × AH) :=
  f_X3_latestOf_l4 NN x0 x1 (-1 : Int32) (0 : Int32) h
theorem v_X3_latestOf (D : va_G) (l : Launch) (hl : l.stackTraces = false) (as : List Value) (h0 : AH) {r : Int32} {hF : AH} (x0 : Nat) (x1 : Int32) (h : AH) (e : f_X3_latestOf x0 x1 h = some (r, hF)) : V (G_X3_latestOf D l as h0 hF (oI r)) h 0 [(0, .ref x0), (1, .int x1)] [] := by
  unfold f_X3_latestOf at e
  refine v_iconst (pc' := 1) (v := (-1)) hc_X3_latestOf dX3_latestOf_0 rfl rfl ?_
  refine v_istore_n (pc' := 2) (lv' := [(2, .int (-1 : Int32)), (0, .ref x0), (1, .int x1)]) hc_X3_latestOf dX3_latestOf_1 rfl rfl (Nat.le_of_ble_eq_true rfl) rfl ?_
  refine v_iconst (pc' := 3) (v := 0) hc_X3_latestOf dX3_latestOf_2 rfl rfl ?_
  refine v_istore_n (pc' := 4) (lv' := [(3, .int (0 : Int32)), (2, .int (-1 : Int32)), (0, .ref x0), (1, .int x1)]) hc_X3_latestOf dX3_latestOf_3 rfl rfl (Nat.le_of_ble_eq_true rfl) rfl ?_
  refine v_pick [2, 3, 1, 0] rfl ?_
  exact w_X3_latestOf_l4 D l hl as h0 NN x0 x1 (-1 : Int32) (0 : Int32) h e
theorem w_X3_latestOf (D : va_G) (l : Launch) (hl : l.stackTraces = false) (x0 : Nat) (x1 : Int32) (h : AH) {r : Int32} {hF : AH} (e : f_X3_latestOf x0 x1 h = some (r, hF)) : MetV D l yX3_latestOf (Cond.code yX3_latestOf cX3_latestOf 4 (Option.some .int)) 2 70 [.ref x0, .int x1] h hF (oI r) :=
  met_ofF (by decide +kernel) hl (Nat.le_of_ble_eq_true rfl) rfl (v_X3_latestOf D l hl [.ref x0, .int x1] h x0 x1 h e)
/-! BlockPapersModel.apart(II)I  -/
abbrev G_X3_apart (D : va_G) (l : Launch) (as : List Value) (h0 hF : AH) (o : Out) : CT := (D, l, (yX3_apart.cls, yX3_apart, cX3_apart, 3, (Option.some .int), 1, 48, []), as, h0, hF, o)
theorem hc_X3_apart {D : va_G} {l : Launch} {as : List Value} {h0 hF : AH} {o : Out} : gC (G_X3_apart D l as h0 hF o) = cX3_apart := rfl
theorem ho_X3_apart {D : va_G} {l : Launch} {as : List Value} {h0 hF : AH} {o : Out} : gO (G_X3_apart D l as h0 hF o) = "BlockPapersModel" := rfl
theorem hp_X3_apart {D : va_G} {l : Launch} {as : List Value} {h0 hF : AH} {o : Out} (pc : Nat) : ∀ z ∈ tableOf (gHd (G_X3_apart D l as h0 hF o)), covers z pc = false := hpN
def f_X3_apart (x0 : Nat) (x1 : Int32) (x2 : Int32) (h : AH) : Option (Int32 × AH) :=
  if x1 ≤ x2 then (
    some ((x2 - x1), h)
  ) else (
    some ((x1 - x2), h)
  )
theorem v_X3_apart (D : va_G) (l : Launch) (hl : l.stackTraces = false) (as : List Value) (h0 : AH) {r : Int32} {hF : AH} (x0 : Nat) (x1 : Int32) (x2 : Int32) (h : AH) (e : f_X3_apart x0 x1 x2 h = some (r, hF)) : V (G_X3_apart D l as h0 hF (oI r)) h 0 [(0, .ref x0), (1, .int x1), (2, .int x2)] [] := by
  unfold f_X3_apart at e
  refine v_iload_n (pc' := 1) hc_X3_apart dX3_apart_0 rfl rfl 1 rfl ?_
  refine v_iload_n (pc' := 2) hc_X3_apart dX3_apart_1 rfl rfl 2 rfl ?_
  refine v_icmp_le (pt := 11) (pf := 5) hc_X3_apart dX3_apart_2 rfl rfl e (fun _ e => ?_) (fun _ e => ?_)
  · refine v_iload_n (pc' := 12) hc_X3_apart dX3_apart_11 rfl rfl 2 rfl ?_
    refine v_iload_n (pc' := 13) hc_X3_apart dX3_apart_12 rfl rfl 1 rfl ?_
    refine v_isub (pc' := 14) hc_X3_apart dX3_apart_13 rfl ?_
    obtain ⟨rfl, rfl⟩ := ret_of e
    exact v_iret hc_X3_apart rfl dX3_apart_14 rfl rfl
  · refine v_iload_n (pc' := 6) hc_X3_apart dX3_apart_5 rfl rfl 1 rfl ?_
    refine v_iload_n (pc' := 7) hc_X3_apart dX3_apart_6 rfl rfl 2 rfl ?_
    refine v_isub (pc' := 8) hc_X3_apart dX3_apart_7 rfl ?_
    refine v_goto (pt := 14) hc_X3_apart dX3_apart_8 rfl ?_
    obtain ⟨rfl, rfl⟩ := ret_of e
    exact v_iret hc_X3_apart rfl dX3_apart_14 rfl rfl
theorem w_X3_apart (D : va_G) (l : Launch) (hl : l.stackTraces = false) (x0 : Nat) (x1 : Int32) (x2 : Int32) (h : AH) {r : Int32} {hF : AH} (e : f_X3_apart x0 x1 x2 h = some (r, hF)) : MetV D l yX3_apart (Cond.code yX3_apart cX3_apart 3 (Option.some .int)) 1 48 [.ref x0, .int x1, .int x2] h hF (oI r) :=
  met_ofF (by decide +kernel) hl (Nat.le_of_ble_eq_true rfl) rfl (v_X3_apart D l hl [.ref x0, .int x1, .int x2] h x0 x1 x2 h e)
/-! BlockPapersModel.givesBack(I)I  -/
abbrev G_X3_givesBack (D : va_G) (l : Launch) (as : List Value) (h0 hF : AH) (o : Out) : CT := (D, l, (yX3_givesBack.cls, yX3_givesBack, cX3_givesBack, 3, (Option.some .int), 3, 93, []), as, h0, hF, o)
theorem hc_X3_givesBack {D : va_G} {l : Launch} {as : List Value} {h0 hF : AH} {o : Out} : gC (G_X3_givesBack D l as h0 hF o) = cX3_givesBack := rfl
theorem ho_X3_givesBack {D : va_G} {l : Launch} {as : List Value} {h0 hF : AH} {o : Out} : gO (G_X3_givesBack D l as h0 hF o) = "BlockPapersModel" := rfl
theorem hp_X3_givesBack {D : va_G} {l : Launch} {as : List Value} {h0 hF : AH} {o : Out} (pc : Nat) : ∀ z ∈ tableOf (gHd (G_X3_givesBack D l as h0 hF o)), covers z pc = false := hpN
def f_X3_givesBack (x0 : Nat) (x1 : Int32) (h : AH) : Option (Int32 × AH) :=
  gd (isC h 2 x0) <|
  bd2 (f_X3_rollRow x0 x1 (5 : Int32) h) fun r2 h3 =>
  if r2 = (1 : Int32) then (
    gd (isC h3 2 x0) <|
    bd2 (f_X3_refused x0 (5 : Int32) x1 h3) fun r6 h7 =>
    some (r6, h7)
  ) else (
    gd (isC h3 2 x0) <|
    bd2 (f_X3_rollRow x0 x1 (4 : Int32) h3) fun r10 h11 =>
    if r10 ≤ 0 then (
      gd (isC h11 2 x0) <|
      bd2 (f_X3_rollRow x0 x1 (3 : Int32) h11) fun r14 h15 =>
      gd (isC h15 2 x0) <|
      bd2 (f_X3_colourOf x0 x1 h15) fun r18 h19 =>
      gd (isC h19 2 x0) <|
      bd2 (f_X3_latestOf x0 r18 h19) fun r22 h23 =>
      gd (isC h23 2 x0) <|
      bd2 (f_X3_inkRow x0 r22 (1 : Int32) h23) fun r26 h27 =>
      gd (isC h27 2 x0) <|
      bd2 (f_X3_apart x0 r14 r26 h27) fun r30 h31 =>
      if r30 ≤ (1 : Int32) then (
        bd (gtR h31 2 x0 1) fun v33 =>
        bd (stI h31 v33 (((79 : Int32) + ((6 : Int32) * x1)) + (5 : Int32)) (1 : Int32)) fun h34 =>
        gd (isC h34 2 x0) <|
        bd2 (f_X3_rollRow x0 x1 (2 : Int32) h34) fun r36 h37 =>
        gd (isC h37 2 x0) <|
        bd2 (f_X3_done x0 r36 h37) fun r40 h41 =>
        some (r40, h41)
      ) else (
        gd (isC h31 2 x0) <|
        bd2 (f_X3_refused x0 (12 : Int32) r30 h31) fun r44 h45 =>
        some (r44, h45)
      )
    ) else (
      gd (isC h11 2 x0) <|
      bd2 (f_X3_rollRow x0 x1 (4 : Int32) h11) fun r48 h49 =>
      gd (isC h49 2 x0) <|
      bd2 (f_X3_refused x0 (11 : Int32) r48 h49) fun r52 h53 =>
      some (r52, h53)
    )
  )
theorem v_X3_givesBack (D : va_G) (l : Launch) (hl : l.stackTraces = false) (as : List Value) (h0 : AH) {r : Int32} {hF : AH} (x0 : Nat) (x1 : Int32) (h : AH) (e : f_X3_givesBack x0 x1 h = some (r, hF)) : V (G_X3_givesBack D l as h0 hF (oI r)) h 0 [(0, .ref x0), (1, .int x1)] [] := by
  unfold f_X3_givesBack at e
  refine v_aload_n (pc' := 1) hc_X3_givesBack dX3_givesBack_0 rfl rfl 0 rfl ?_
  refine v_iload_n (pc' := 2) hc_X3_givesBack dX3_givesBack_1 rfl rfl 1 rfl ?_
  refine v_iconst (pc' := 3) (v := 5) hc_X3_givesBack dX3_givesBack_2 rfl rfl ?_
  obtain ⟨c1, e⟩ := gd_of e
  obtain ⟨r2, h3, e4, e⟩ := bd2_of e
  refine k_V (pc' := 6) (ci := 2) (n := 2) hc_X3_givesBack ho_X3_givesBack rfl c1 (w_X3_rollRow D l hl x0 x1 (5 : Int32) h e4) (wA_l q2419) q2421 (wA_l qs40) q85 q2422 hy_165 ⟨Nat.le_of_ble_eq_true rfl, Nat.le_of_ble_eq_true rfl⟩ rfl rfl (Nat.le_of_ble_eq_true rfl) dX3_givesBack_3 rfl (kS ?_) kN
  refine v_iconst (pc' := 7) (v := 1) hc_X3_givesBack dX3_givesBack_6 rfl rfl ?_
  refine v_icmp_ne (pt := 17) (pf := 10) hc_X3_givesBack dX3_givesBack_7 rfl rfl e (fun _ e => ?_) (fun _ e => ?_)
  · refine v_aload_n (pc' := 11) hc_X3_givesBack dX3_givesBack_10 rfl rfl 0 rfl ?_
    refine v_iconst (pc' := 12) (v := 5) hc_X3_givesBack dX3_givesBack_11 rfl rfl ?_
    refine v_iload_n (pc' := 13) hc_X3_givesBack dX3_givesBack_12 rfl rfl 1 rfl ?_
    obtain ⟨c5, e⟩ := gd_of e
    obtain ⟨r6, h7, e8, e⟩ := bd2_of e
    refine k_V (pc' := 16) (ci := 2) (n := 2) hc_X3_givesBack ho_X3_givesBack rfl c5 (w_X3_refused D l hl x0 (5 : Int32) x1 h3 e8) (wA_l q2335) q2337 (wA_l qs26) q85 q2338 hy_120 ⟨Nat.le_of_ble_eq_true rfl, Nat.le_of_ble_eq_true rfl⟩ rfl rfl (Nat.le_of_ble_eq_true rfl) dX3_givesBack_13 rfl (kS ?_) kN
    obtain ⟨rfl, rfl⟩ := ret_of e
    exact v_iret hc_X3_givesBack rfl dX3_givesBack_16 rfl rfl
  · refine v_aload_n (pc' := 18) hc_X3_givesBack dX3_givesBack_17 rfl rfl 0 rfl ?_
    refine v_iload_n (pc' := 19) hc_X3_givesBack dX3_givesBack_18 rfl rfl 1 rfl ?_
    refine v_iconst (pc' := 20) (v := 4) hc_X3_givesBack dX3_givesBack_19 rfl rfl ?_
    obtain ⟨c9, e⟩ := gd_of e
    obtain ⟨r10, h11, e12, e⟩ := bd2_of e
    refine k_V (pc' := 23) (ci := 2) (n := 2) hc_X3_givesBack ho_X3_givesBack rfl c9 (w_X3_rollRow D l hl x0 x1 (4 : Int32) h3 e12) (wA_l q2419) q2421 (wA_l qs40) q85 q2422 hy_165 ⟨Nat.le_of_ble_eq_true rfl, Nat.le_of_ble_eq_true rfl⟩ rfl rfl (Nat.le_of_ble_eq_true rfl) dX3_givesBack_20 rfl (kS ?_) kN
    refine v_if_le (pt := 39) (pf := 26) hc_X3_givesBack dX3_givesBack_23 rfl rfl e (fun _ e => ?_) (fun _ e => ?_)
    · refine v_aload_n (pc' := 40) hc_X3_givesBack dX3_givesBack_39 rfl rfl 0 rfl ?_
      refine v_aload_n (pc' := 41) hc_X3_givesBack dX3_givesBack_40 rfl rfl 0 rfl ?_
      refine v_iload_n (pc' := 42) hc_X3_givesBack dX3_givesBack_41 rfl rfl 1 rfl ?_
      refine v_iconst (pc' := 43) (v := 3) hc_X3_givesBack dX3_givesBack_42 rfl rfl ?_
      obtain ⟨c13, e⟩ := gd_of e
      obtain ⟨r14, h15, e16, e⟩ := bd2_of e
      refine k_V (pc' := 46) (ci := 2) (n := 2) hc_X3_givesBack ho_X3_givesBack rfl c13 (w_X3_rollRow D l hl x0 x1 (3 : Int32) h11 e16) (wA_l q2419) q2421 (wA_l qs40) q85 q2422 hy_165 ⟨Nat.le_of_ble_eq_true rfl, Nat.le_of_ble_eq_true rfl⟩ rfl rfl (Nat.le_of_ble_eq_true rfl) dX3_givesBack_43 rfl (kS ?_) kN
      refine v_aload_n (pc' := 47) hc_X3_givesBack dX3_givesBack_46 rfl rfl 0 rfl ?_
      refine v_aload_n (pc' := 48) hc_X3_givesBack dX3_givesBack_47 rfl rfl 0 rfl ?_
      refine v_aload_n (pc' := 49) hc_X3_givesBack dX3_givesBack_48 rfl rfl 0 rfl ?_
      refine v_iload_n (pc' := 50) hc_X3_givesBack dX3_givesBack_49 rfl rfl 1 rfl ?_
      obtain ⟨c17, e⟩ := gd_of e
      obtain ⟨r18, h19, e20, e⟩ := bd2_of e
      refine k_V (pc' := 53) (ci := 2) (n := 1) hc_X3_givesBack ho_X3_givesBack rfl c17 (w_X3_colourOf D l hl x0 x1 h15 e20) (wA_l q2423) q2425 (wA_l qs41) q85 q2426 hy_166 ⟨Nat.le_of_ble_eq_true rfl, Nat.le_of_ble_eq_true rfl⟩ rfl rfl (Nat.le_of_ble_eq_true rfl) dX3_givesBack_50 rfl (kS ?_) kN
      obtain ⟨c21, e⟩ := gd_of e
      obtain ⟨r22, h23, e24, e⟩ := bd2_of e
      refine k_V (pc' := 56) (ci := 2) (n := 1) hc_X3_givesBack ho_X3_givesBack rfl c21 (w_X3_latestOf D l hl x0 r18 h19 e24) (wA_l q2450) q2452 (wA_l qs46) q85 q2453 hy_174 ⟨Nat.le_of_ble_eq_true rfl, Nat.le_of_ble_eq_true rfl⟩ rfl rfl (Nat.le_of_ble_eq_true rfl) dX3_givesBack_53 rfl (kS ?_) kN
      refine v_iconst (pc' := 57) (v := 1) hc_X3_givesBack dX3_givesBack_56 rfl rfl ?_
      obtain ⟨c25, e⟩ := gd_of e
      obtain ⟨r26, h27, e28, e⟩ := bd2_of e
      refine k_V (pc' := 60) (ci := 2) (n := 2) hc_X3_givesBack ho_X3_givesBack rfl c25 (w_X3_inkRow D l hl x0 r22 (1 : Int32) h23 e28) (wA_l q2391) q2393 (wA_l qs36) q85 q2394 hy_145 ⟨Nat.le_of_ble_eq_true rfl, Nat.le_of_ble_eq_true rfl⟩ rfl rfl (Nat.le_of_ble_eq_true rfl) dX3_givesBack_57 rfl (kS ?_) kN
      obtain ⟨c29, e⟩ := gd_of e
      obtain ⟨r30, h31, e32, e⟩ := bd2_of e
      refine k_V (pc' := 63) (ci := 2) (n := 2) hc_X3_givesBack ho_X3_givesBack rfl c29 (w_X3_apart D l hl x0 r14 r26 h27 e32) (wA_l q2454) q2456 (wA_l qs47) q85 q2457 hy_175 ⟨Nat.le_of_ble_eq_true rfl, Nat.le_of_ble_eq_true rfl⟩ rfl rfl (Nat.le_of_ble_eq_true rfl) dX3_givesBack_60 rfl (kS ?_) kN
      refine v_istore_n (pc' := 64) (lv' := [(2, .int r30), (0, .ref x0), (1, .int x1)]) hc_X3_givesBack dX3_givesBack_63 rfl rfl (Nat.le_of_ble_eq_true rfl) rfl ?_
      refine v_iload_n (pc' := 65) hc_X3_givesBack dX3_givesBack_64 rfl rfl 0 rfl ?_
      refine v_iconst (pc' := 66) (v := 1) hc_X3_givesBack dX3_givesBack_65 rfl rfl ?_
      refine v_icmp_le (pt := 77) (pf := 69) hc_X3_givesBack dX3_givesBack_66 rfl rfl e (fun _ e => ?_) (fun _ e => ?_)
      · refine v_aload_n (pc' := 78) hc_X3_givesBack dX3_givesBack_77 rfl rfl 1 rfl ?_
        refine v_gfR (pc' := 81) hc_X3_givesBack ho_X3_givesBack KX3 1 (Nat.le_of_ble_eq_true rfl) q2243 (Or.inl rfl) dX3_givesBack_78 rfl e (fun v33 _ e => ?_)
        refine v_bipush (pc' := 83) (v := 79) hc_X3_givesBack dX3_givesBack_81 rfl rfl ?_
        refine v_bipush (pc' := 85) (v := 6) hc_X3_givesBack dX3_givesBack_83 rfl rfl ?_
        refine v_iload_n (pc' := 86) hc_X3_givesBack dX3_givesBack_85 rfl rfl 2 rfl ?_
        refine v_imul (pc' := 87) hc_X3_givesBack dX3_givesBack_86 rfl ?_
        refine v_iadd (pc' := 88) hc_X3_givesBack dX3_givesBack_87 rfl ?_
        refine v_iconst (pc' := 89) (v := 5) hc_X3_givesBack dX3_givesBack_88 rfl rfl ?_
        refine v_iadd (pc' := 90) hc_X3_givesBack dX3_givesBack_89 rfl ?_
        refine v_iconst (pc' := 91) (v := 1) hc_X3_givesBack dX3_givesBack_90 rfl rfl ?_
        refine v_iast (pc' := 92) hc_X3_givesBack dX3_givesBack_91 rfl e (fun h34 _ e => ?_)
        refine v_aload_n (pc' := 93) hc_X3_givesBack dX3_givesBack_92 rfl rfl 1 rfl ?_
        refine v_aload_n (pc' := 94) hc_X3_givesBack dX3_givesBack_93 rfl rfl 1 rfl ?_
        refine v_iload_n (pc' := 95) hc_X3_givesBack dX3_givesBack_94 rfl rfl 2 rfl ?_
        refine v_iconst (pc' := 96) (v := 2) hc_X3_givesBack dX3_givesBack_95 rfl rfl ?_
        obtain ⟨c35, e⟩ := gd_of e
        obtain ⟨r36, h37, e38, e⟩ := bd2_of e
        refine k_V (pc' := 99) (ci := 2) (n := 2) hc_X3_givesBack ho_X3_givesBack rfl c35 (w_X3_rollRow D l hl x0 x1 (2 : Int32) h34 e38) (wA_l q2419) q2421 (wA_l qs40) q85 q2422 hy_165 ⟨Nat.le_of_ble_eq_true rfl, Nat.le_of_ble_eq_true rfl⟩ rfl rfl (Nat.le_of_ble_eq_true rfl) dX3_givesBack_96 rfl (kS ?_) kN
        obtain ⟨c39, e⟩ := gd_of e
        obtain ⟨r40, h41, e42, e⟩ := bd2_of e
        refine k_V (pc' := 102) (ci := 2) (n := 1) hc_X3_givesBack ho_X3_givesBack rfl c39 (w_X3_done D l hl x0 r36 h37 e42) (wA_l q2339) q2341 (wA_l qs27) q85 q2342 hy_121 ⟨Nat.le_of_ble_eq_true rfl, Nat.le_of_ble_eq_true rfl⟩ rfl rfl (Nat.le_of_ble_eq_true rfl) dX3_givesBack_99 rfl (kS ?_) kN
        obtain ⟨rfl, rfl⟩ := ret_of e
        exact v_iret hc_X3_givesBack rfl dX3_givesBack_102 rfl rfl
      · refine v_aload_n (pc' := 70) hc_X3_givesBack dX3_givesBack_69 rfl rfl 1 rfl ?_
        refine v_bipush (pc' := 72) (v := 12) hc_X3_givesBack dX3_givesBack_70 rfl rfl ?_
        refine v_iload_n (pc' := 73) hc_X3_givesBack dX3_givesBack_72 rfl rfl 0 rfl ?_
        obtain ⟨c43, e⟩ := gd_of e
        obtain ⟨r44, h45, e46, e⟩ := bd2_of e
        refine k_V (pc' := 76) (ci := 2) (n := 2) hc_X3_givesBack ho_X3_givesBack rfl c43 (w_X3_refused D l hl x0 (12 : Int32) r30 h31 e46) (wA_l q2335) q2337 (wA_l qs26) q85 q2338 hy_120 ⟨Nat.le_of_ble_eq_true rfl, Nat.le_of_ble_eq_true rfl⟩ rfl rfl (Nat.le_of_ble_eq_true rfl) dX3_givesBack_73 rfl (kS ?_) kN
        obtain ⟨rfl, rfl⟩ := ret_of e
        exact v_iret hc_X3_givesBack rfl dX3_givesBack_76 rfl rfl
    · refine v_aload_n (pc' := 27) hc_X3_givesBack dX3_givesBack_26 rfl rfl 0 rfl ?_
      refine v_bipush (pc' := 29) (v := 11) hc_X3_givesBack dX3_givesBack_27 rfl rfl ?_
      refine v_aload_n (pc' := 30) hc_X3_givesBack dX3_givesBack_29 rfl rfl 0 rfl ?_
      refine v_iload_n (pc' := 31) hc_X3_givesBack dX3_givesBack_30 rfl rfl 1 rfl ?_
      refine v_iconst (pc' := 32) (v := 4) hc_X3_givesBack dX3_givesBack_31 rfl rfl ?_
      obtain ⟨c47, e⟩ := gd_of e
      obtain ⟨r48, h49, e50, e⟩ := bd2_of e
      refine k_V (pc' := 35) (ci := 2) (n := 2) hc_X3_givesBack ho_X3_givesBack rfl c47 (w_X3_rollRow D l hl x0 x1 (4 : Int32) h11 e50) (wA_l q2419) q2421 (wA_l qs40) q85 q2422 hy_165 ⟨Nat.le_of_ble_eq_true rfl, Nat.le_of_ble_eq_true rfl⟩ rfl rfl (Nat.le_of_ble_eq_true rfl) dX3_givesBack_32 rfl (kS ?_) kN
      obtain ⟨c51, e⟩ := gd_of e
      obtain ⟨r52, h53, e54, e⟩ := bd2_of e
      refine k_V (pc' := 38) (ci := 2) (n := 2) hc_X3_givesBack ho_X3_givesBack rfl c51 (w_X3_refused D l hl x0 (11 : Int32) r48 h49 e54) (wA_l q2335) q2337 (wA_l qs26) q85 q2338 hy_120 ⟨Nat.le_of_ble_eq_true rfl, Nat.le_of_ble_eq_true rfl⟩ rfl rfl (Nat.le_of_ble_eq_true rfl) dX3_givesBack_35 rfl (kS ?_) kN
      obtain ⟨rfl, rfl⟩ := ret_of e
      exact v_iret hc_X3_givesBack rfl dX3_givesBack_38 rfl rfl
theorem w_X3_givesBack (D : va_G) (l : Launch) (hl : l.stackTraces = false) (x0 : Nat) (x1 : Int32) (h : AH) {r : Int32} {hF : AH} (e : f_X3_givesBack x0 x1 h = some (r, hF)) : MetV D l yX3_givesBack (Cond.code yX3_givesBack cX3_givesBack 3 (Option.some .int)) 3 93 [.ref x0, .int x1] h hF (oI r) :=
  met_ofF (by decide +kernel) hl (Nat.le_of_ble_eq_true rfl) rfl (v_X3_givesBack D l hl [.ref x0, .int x1] h x0 x1 h e)
/-! BlockPapersModel.giveBack(I)I  -/
abbrev G_X3_giveBack (D : va_G) (l : Launch) (as : List Value) (h0 hF : AH) (o : Out) : CT := (D, l, (yX3_giveBack.cls, yX3_giveBack, cX3_giveBack, 2, (Option.some .int), 4, 115, []), as, h0, hF, o)
theorem hc_X3_giveBack {D : va_G} {l : Launch} {as : List Value} {h0 hF : AH} {o : Out} : gC (G_X3_giveBack D l as h0 hF o) = cX3_giveBack := rfl
theorem ho_X3_giveBack {D : va_G} {l : Launch} {as : List Value} {h0 hF : AH} {o : Out} : gO (G_X3_giveBack D l as h0 hF o) = "BlockPapersModel" := rfl
theorem hp_X3_giveBack {D : va_G} {l : Launch} {as : List Value} {h0 hF : AH} {o : Out} (pc : Nat) : ∀ z ∈ tableOf (gHd (G_X3_giveBack D l as h0 hF o)), covers z pc = false := hpN
def f_X3_giveBack (x0 : Nat) (x1 : Int32) (h : AH) : Option (Int32 × AH) :=
  bd (stF h 2 x0 0 (.int (0 : Int32))) fun h1 =>
  gd (isC h1 2 x0) <|
  bd2 (f_X3_remembers x0 h1) fun r3 h4 =>
  gd (isC h4 2 x0) <|
  bd2 (f_X3_isRoll x0 x1 h4) fun r7 h8 =>
  if r7 = 0 then (
    gd (isC h8 2 x0) <|
    bd2 (f_X3_fails x0 (1 : Int32) h8) fun r11 h12 =>
    some (r11, h12)
  ) else (
    gd (isC h8 2 x0) <|
    bd2 (f_X3_givesBack x0 x1 h8) fun r15 h16 =>
    gd (isC h16 2 x0) <|
    bd2 (f_X3_ends x0 r15 (2 : Int32) h16) fun r19 h20 =>
    some (r19, h20)
  )
theorem v_X3_giveBack (D : va_G) (l : Launch) (hl : l.stackTraces = false) (as : List Value) (h0 : AH) {r : Int32} {hF : AH} (x0 : Nat) (x1 : Int32) (h : AH) (e : f_X3_giveBack x0 x1 h = some (r, hF)) : V (G_X3_giveBack D l as h0 hF (oI r)) h 0 [(0, .ref x0), (1, .int x1)] [] := by
  unfold f_X3_giveBack at e
  refine v_aload_n (pc' := 1) hc_X3_giveBack dX3_giveBack_0 rfl rfl 0 rfl ?_
  refine v_iconst (pc' := 2) (v := 0) hc_X3_giveBack dX3_giveBack_1 rfl rfl ?_
  refine v_pf (pc' := 5) hc_X3_giveBack ho_X3_giveBack KX3 0 (Nat.le_of_ble_eq_true rfl) q2242 (Or.inl rfl) rfl dX3_giveBack_2 rfl rfl rfl e (fun h1 _ e => ?_)
  refine v_aload_n (pc' := 6) hc_X3_giveBack dX3_giveBack_5 rfl rfl 0 rfl ?_
  obtain ⟨c2, e⟩ := gd_of e
  obtain ⟨r3, h4, e5, e⟩ := bd2_of e
  refine k_V (pc' := 9) (ci := 2) (n := 0) hc_X3_giveBack ho_X3_giveBack rfl c2 (w_X3_remembers D l hl x0 h1 e5) (wA_l q2324) q2326 (wA_l qs24) q85 q2327 hy_117 ⟨Nat.le_of_ble_eq_true rfl, Nat.le_of_ble_eq_true rfl⟩ rfl rfl (Nat.le_of_ble_eq_true rfl) dX3_giveBack_6 rfl (kU ?_) kN
  refine v_aload_n (pc' := 10) hc_X3_giveBack dX3_giveBack_9 rfl rfl 0 rfl ?_
  refine v_iload_n (pc' := 11) hc_X3_giveBack dX3_giveBack_10 rfl rfl 1 rfl ?_
  obtain ⟨c6, e⟩ := gd_of e
  obtain ⟨r7, h8, e9, e⟩ := bd2_of e
  refine k_V (pc' := 14) (ci := 2) (n := 1) hc_X3_giveBack ho_X3_giveBack rfl c6 (w_X3_isRoll D l hl x0 x1 h4 e9) (wA_l q2415) q2417 (wA_l qs39) q85 q2418 hy_164 ⟨Nat.le_of_ble_eq_true rfl, Nat.le_of_ble_eq_true rfl⟩ rfl rfl (Nat.le_of_ble_eq_true rfl) dX3_giveBack_11 rfl (kS ?_) kN
  refine v_if_eq (pt := 30) (pf := 17) hc_X3_giveBack dX3_giveBack_14 rfl rfl e (fun _ e => ?_) (fun _ e => ?_)
  · refine v_aload_n (pc' := 31) hc_X3_giveBack dX3_giveBack_30 rfl rfl 0 rfl ?_
    refine v_iconst (pc' := 32) (v := 1) hc_X3_giveBack dX3_giveBack_31 rfl rfl ?_
    obtain ⟨c10, e⟩ := gd_of e
    obtain ⟨r11, h12, e13, e⟩ := bd2_of e
    refine k_V (pc' := 35) (ci := 2) (n := 1) hc_X3_giveBack ho_X3_giveBack rfl c10 (w_X3_fails D l hl x0 (1 : Int32) h8 e13) (wA_l q2351) q2353 (wA_l qs30) q85 q2354 hy_119 ⟨Nat.le_of_ble_eq_true rfl, Nat.le_of_ble_eq_true rfl⟩ rfl rfl (Nat.le_of_ble_eq_true rfl) dX3_giveBack_32 rfl (kS ?_) kN
    obtain ⟨rfl, rfl⟩ := ret_of e
    exact v_iret hc_X3_giveBack rfl dX3_giveBack_35 rfl rfl
  · refine v_aload_n (pc' := 18) hc_X3_giveBack dX3_giveBack_17 rfl rfl 0 rfl ?_
    refine v_aload_n (pc' := 19) hc_X3_giveBack dX3_giveBack_18 rfl rfl 0 rfl ?_
    refine v_iload_n (pc' := 20) hc_X3_giveBack dX3_giveBack_19 rfl rfl 1 rfl ?_
    obtain ⟨c14, e⟩ := gd_of e
    obtain ⟨r15, h16, e17, e⟩ := bd2_of e
    refine k_V (pc' := 23) (ci := 2) (n := 1) hc_X3_giveBack ho_X3_giveBack rfl c14 (w_X3_givesBack D l hl x0 x1 h8 e17) (wA_l q2446) q2448 (wA_l qs45) q85 q2449 hy_176 ⟨Nat.le_of_ble_eq_true rfl, Nat.le_of_ble_eq_true rfl⟩ rfl rfl (Nat.le_of_ble_eq_true rfl) dX3_giveBack_20 rfl (kS ?_) kN
    refine v_iconst (pc' := 24) (v := 2) hc_X3_giveBack dX3_giveBack_23 rfl rfl ?_
    obtain ⟨c18, e⟩ := gd_of e
    obtain ⟨r19, h20, e21, e⟩ := bd2_of e
    refine k_V (pc' := 27) (ci := 2) (n := 2) hc_X3_giveBack ho_X3_giveBack rfl c18 (w_X3_ends D l hl x0 r15 (2 : Int32) h16 e21) (wA_l q2343) q2345 (wA_l qs28) q85 q2346 hy_124 ⟨Nat.le_of_ble_eq_true rfl, Nat.le_of_ble_eq_true rfl⟩ rfl rfl (Nat.le_of_ble_eq_true rfl) dX3_giveBack_24 rfl (kS ?_) kN
    refine v_goto (pt := 35) hc_X3_giveBack dX3_giveBack_27 rfl ?_
    obtain ⟨rfl, rfl⟩ := ret_of e
    exact v_iret hc_X3_giveBack rfl dX3_giveBack_35 rfl rfl
theorem w_X3_giveBack (D : va_G) (l : Launch) (hl : l.stackTraces = false) (x0 : Nat) (x1 : Int32) (h : AH) {r : Int32} {hF : AH} (e : f_X3_giveBack x0 x1 h = some (r, hF)) : MetV D l yX3_giveBack (Cond.code yX3_giveBack cX3_giveBack 2 (Option.some .int)) 4 115 [.ref x0, .int x1] h hF (oI r) :=
  met_ofF (by decide +kernel) hl (Nat.le_of_ble_eq_true rfl) rfl (v_X3_giveBack D l hl [.ref x0, .int x1] h x0 x1 h e)
/-! BlockPapersModel.rooms(II)I  -/
abbrev G_X3_rooms (D : va_G) (l : Launch) (as : List Value) (h0 hF : AH) (o : Out) : CT := (D, l, (yX3_rooms.cls, yX3_rooms, cX3_rooms, 4, (Option.some .int), 2, 70, []), as, h0, hF, o)
theorem hc_X3_rooms {D : va_G} {l : Launch} {as : List Value} {h0 hF : AH} {o : Out} : gC (G_X3_rooms D l as h0 hF o) = cX3_rooms := rfl
theorem ho_X3_rooms {D : va_G} {l : Launch} {as : List Value} {h0 hF : AH} {o : Out} : gO (G_X3_rooms D l as h0 hF o) = "BlockPapersModel" := rfl
theorem hp_X3_rooms {D : va_G} {l : Launch} {as : List Value} {h0 hF : AH} {o : Out} (pc : Nat) : ∀ z ∈ tableOf (gHd (G_X3_rooms D l as h0 hF o)), covers z pc = false := hpN
def f_X3_rooms (x0 : Nat) (x1 : Int32) (x2 : Int32) (h : AH) : Option (Int32 × AH) :=
  bd (gtR h 2 x0 1) fun v1 =>
  bd (ldI h 0 v1 (3 : Int32)) fun v2 =>
  if v2 = (6 : Int32) then (
    gd (isC h 2 x0) <|
    bd2 (f_X3_refused x0 (1 : Int32) (6 : Int32) h) fun r4 h5 =>
    some (r4, h5)
  ) else (
    bd (gtR h 2 x0 1) fun v7 =>
    bd (stI h v7 ((223 : Int32) + ((5 : Int32) * v2)) x1) fun h8 =>
    bd (gtR h8 2 x0 1) fun v9 =>
    bd (stI h8 v9 (((223 : Int32) + ((5 : Int32) * v2)) + (1 : Int32)) x2) fun h10 =>
    bd (gtR h10 2 x0 1) fun v11 =>
    bd (stI h10 v11 (3 : Int32) (v2 + (1 : Int32))) fun h12 =>
    gd (isC h12 2 x0) <|
    bd2 (f_X3_done x0 v2 h12) fun r14 h15 =>
    some (r14, h15)
  )
theorem v_X3_rooms (D : va_G) (l : Launch) (hl : l.stackTraces = false) (as : List Value) (h0 : AH) {r : Int32} {hF : AH} (x0 : Nat) (x1 : Int32) (x2 : Int32) (h : AH) (e : f_X3_rooms x0 x1 x2 h = some (r, hF)) : V (G_X3_rooms D l as h0 hF (oI r)) h 0 [(0, .ref x0), (1, .int x1), (2, .int x2)] [] := by
  unfold f_X3_rooms at e
  refine v_aload_n (pc' := 1) hc_X3_rooms dX3_rooms_0 rfl rfl 0 rfl ?_
  refine v_gfR (pc' := 4) hc_X3_rooms ho_X3_rooms KX3 1 (Nat.le_of_ble_eq_true rfl) q2243 (Or.inl rfl) dX3_rooms_1 rfl e (fun v1 _ e => ?_)
  refine v_iconst (pc' := 5) (v := 3) hc_X3_rooms dX3_rooms_4 rfl rfl ?_
  refine v_iald (pc' := 6) hc_X3_rooms dX3_rooms_5 rfl e (fun v2 _ e => ?_)
  refine v_istore_n (pc' := 7) (lv' := [(3, .int v2), (0, .ref x0), (1, .int x1), (2, .int x2)]) hc_X3_rooms dX3_rooms_6 rfl rfl (Nat.le_of_ble_eq_true rfl) rfl ?_
  refine v_iload_n (pc' := 8) hc_X3_rooms dX3_rooms_7 rfl rfl 0 rfl ?_
  refine v_bipush (pc' := 10) (v := 6) hc_X3_rooms dX3_rooms_8 rfl rfl ?_
  refine v_icmp_ne (pt := 21) (pf := 13) hc_X3_rooms dX3_rooms_10 rfl rfl e (fun _ e => ?_) (fun _ e => ?_)
  · refine v_aload_n (pc' := 14) hc_X3_rooms dX3_rooms_13 rfl rfl 1 rfl ?_
    refine v_iconst (pc' := 15) (v := 1) hc_X3_rooms dX3_rooms_14 rfl rfl ?_
    refine v_bipush (pc' := 17) (v := 6) hc_X3_rooms dX3_rooms_15 rfl rfl ?_
    obtain ⟨c3, e⟩ := gd_of e
    obtain ⟨r4, h5, e6, e⟩ := bd2_of e
    refine k_V (pc' := 20) (ci := 2) (n := 2) hc_X3_rooms ho_X3_rooms rfl c3 (w_X3_refused D l hl x0 (1 : Int32) (6 : Int32) h e6) (wA_l q2335) q2337 (wA_l qs26) q85 q2338 hy_120 ⟨Nat.le_of_ble_eq_true rfl, Nat.le_of_ble_eq_true rfl⟩ rfl rfl (Nat.le_of_ble_eq_true rfl) dX3_rooms_17 rfl (kS ?_) kN
    obtain ⟨rfl, rfl⟩ := ret_of e
    exact v_iret hc_X3_rooms rfl dX3_rooms_20 rfl rfl
  · refine v_aload_n (pc' := 22) hc_X3_rooms dX3_rooms_21 rfl rfl 1 rfl ?_
    refine v_gfR (pc' := 25) hc_X3_rooms ho_X3_rooms KX3 1 (Nat.le_of_ble_eq_true rfl) q2243 (Or.inl rfl) dX3_rooms_22 rfl e (fun v7 _ e => ?_)
    refine v_sipush (pc' := 28) (v := 223) hc_X3_rooms dX3_rooms_25 rfl rfl ?_
    refine v_iconst (pc' := 29) (v := 5) hc_X3_rooms dX3_rooms_28 rfl rfl ?_
    refine v_iload_n (pc' := 30) hc_X3_rooms dX3_rooms_29 rfl rfl 0 rfl ?_
    refine v_imul (pc' := 31) hc_X3_rooms dX3_rooms_30 rfl ?_
    refine v_iadd (pc' := 32) hc_X3_rooms dX3_rooms_31 rfl ?_
    refine v_iload_n (pc' := 33) hc_X3_rooms dX3_rooms_32 rfl rfl 2 rfl ?_
    refine v_iast (pc' := 34) hc_X3_rooms dX3_rooms_33 rfl e (fun h8 _ e => ?_)
    refine v_aload_n (pc' := 35) hc_X3_rooms dX3_rooms_34 rfl rfl 1 rfl ?_
    refine v_gfR (pc' := 38) hc_X3_rooms ho_X3_rooms KX3 1 (Nat.le_of_ble_eq_true rfl) q2243 (Or.inl rfl) dX3_rooms_35 rfl e (fun v9 _ e => ?_)
    refine v_sipush (pc' := 41) (v := 223) hc_X3_rooms dX3_rooms_38 rfl rfl ?_
    refine v_iconst (pc' := 42) (v := 5) hc_X3_rooms dX3_rooms_41 rfl rfl ?_
    refine v_iload_n (pc' := 43) hc_X3_rooms dX3_rooms_42 rfl rfl 0 rfl ?_
    refine v_imul (pc' := 44) hc_X3_rooms dX3_rooms_43 rfl ?_
    refine v_iadd (pc' := 45) hc_X3_rooms dX3_rooms_44 rfl ?_
    refine v_iconst (pc' := 46) (v := 1) hc_X3_rooms dX3_rooms_45 rfl rfl ?_
    refine v_iadd (pc' := 47) hc_X3_rooms dX3_rooms_46 rfl ?_
    refine v_iload_n (pc' := 48) hc_X3_rooms dX3_rooms_47 rfl rfl 3 rfl ?_
    refine v_iast (pc' := 49) hc_X3_rooms dX3_rooms_48 rfl e (fun h10 _ e => ?_)
    refine v_aload_n (pc' := 50) hc_X3_rooms dX3_rooms_49 rfl rfl 1 rfl ?_
    refine v_gfR (pc' := 53) hc_X3_rooms ho_X3_rooms KX3 1 (Nat.le_of_ble_eq_true rfl) q2243 (Or.inl rfl) dX3_rooms_50 rfl e (fun v11 _ e => ?_)
    refine v_iconst (pc' := 54) (v := 3) hc_X3_rooms dX3_rooms_53 rfl rfl ?_
    refine v_iload_n (pc' := 55) hc_X3_rooms dX3_rooms_54 rfl rfl 0 rfl ?_
    refine v_iconst (pc' := 56) (v := 1) hc_X3_rooms dX3_rooms_55 rfl rfl ?_
    refine v_iadd (pc' := 57) hc_X3_rooms dX3_rooms_56 rfl ?_
    refine v_iast (pc' := 58) hc_X3_rooms dX3_rooms_57 rfl e (fun h12 _ e => ?_)
    refine v_aload_n (pc' := 59) hc_X3_rooms dX3_rooms_58 rfl rfl 1 rfl ?_
    refine v_iload_n (pc' := 60) hc_X3_rooms dX3_rooms_59 rfl rfl 0 rfl ?_
    obtain ⟨c13, e⟩ := gd_of e
    obtain ⟨r14, h15, e16, e⟩ := bd2_of e
    refine k_V (pc' := 63) (ci := 2) (n := 1) hc_X3_rooms ho_X3_rooms rfl c13 (w_X3_done D l hl x0 v2 h12 e16) (wA_l q2339) q2341 (wA_l qs27) q85 q2342 hy_121 ⟨Nat.le_of_ble_eq_true rfl, Nat.le_of_ble_eq_true rfl⟩ rfl rfl (Nat.le_of_ble_eq_true rfl) dX3_rooms_60 rfl (kS ?_) kN
    obtain ⟨rfl, rfl⟩ := ret_of e
    exact v_iret hc_X3_rooms rfl dX3_rooms_63 rfl rfl
theorem w_X3_rooms (D : va_G) (l : Launch) (hl : l.stackTraces = false) (x0 : Nat) (x1 : Int32) (x2 : Int32) (h : AH) {r : Int32} {hF : AH} (e : f_X3_rooms x0 x1 x2 h = some (r, hF)) : MetV D l yX3_rooms (Cond.code yX3_rooms cX3_rooms 4 (Option.some .int)) 2 70 [.ref x0, .int x1, .int x2] h hF (oI r) :=
  met_ofF (by decide +kernel) hl (Nat.le_of_ble_eq_true rfl) rfl (v_X3_rooms D l hl [.ref x0, .int x1, .int x2] h x0 x1 x2 h e)
/-! BlockPapersModel.room(II)I  -/
abbrev G_X3_room (D : va_G) (l : Launch) (as : List Value) (h0 hF : AH) (o : Out) : CT := (D, l, (yX3_room.cls, yX3_room, cX3_room, 3, (Option.some .int), 3, 93, []), as, h0, hF, o)
theorem hc_X3_room {D : va_G} {l : Launch} {as : List Value} {h0 hF : AH} {o : Out} : gC (G_X3_room D l as h0 hF o) = cX3_room := rfl
theorem ho_X3_room {D : va_G} {l : Launch} {as : List Value} {h0 hF : AH} {o : Out} : gO (G_X3_room D l as h0 hF o) = "BlockPapersModel" := rfl
theorem hp_X3_room {D : va_G} {l : Launch} {as : List Value} {h0 hF : AH} {o : Out} (pc : Nat) : ∀ z ∈ tableOf (gHd (G_X3_room D l as h0 hF o)), covers z pc = false := hpN
def f_X3_room (x0 : Nat) (x1 : Int32) (x2 : Int32) (h : AH) : Option (Int32 × AH) :=
  bd (stF h 2 x0 0 (.int (0 : Int32))) fun h1 =>
  gd (isC h1 2 x0) <|
  bd2 (f_X3_remembers x0 h1) fun r3 h4 =>
  bd2 (f_X3_in x1 (150 : Int32) (400 : Int32) h4) fun r6 h7 =>
  if r6 = 0 then (
    gd (isC h7 2 x0) <|
    bd2 (f_X3_fails x0 (1 : Int32) h7) fun r10 h11 =>
    some (r10, h11)
  ) else (
    bd2 (f_X3_in x2 (1 : Int32) (30 : Int32) h7) fun r13 h14 =>
    if r13 = 0 then (
      gd (isC h14 2 x0) <|
      bd2 (f_X3_fails x0 (1 : Int32) h14) fun r17 h18 =>
      some (r17, h18)
    ) else (
      gd (isC h14 2 x0) <|
      bd2 (f_X3_rooms x0 x1 x2 h14) fun r21 h22 =>
      gd (isC h22 2 x0) <|
      bd2 (f_X3_ends x0 r21 (2 : Int32) h22) fun r25 h26 =>
      some (r25, h26)
    )
  )
theorem v_X3_room (D : va_G) (l : Launch) (hl : l.stackTraces = false) (as : List Value) (h0 : AH) {r : Int32} {hF : AH} (x0 : Nat) (x1 : Int32) (x2 : Int32) (h : AH) (e : f_X3_room x0 x1 x2 h = some (r, hF)) : V (G_X3_room D l as h0 hF (oI r)) h 0 [(0, .ref x0), (1, .int x1), (2, .int x2)] [] := by
  unfold f_X3_room at e
  refine v_aload_n (pc' := 1) hc_X3_room dX3_room_0 rfl rfl 0 rfl ?_
  refine v_iconst (pc' := 2) (v := 0) hc_X3_room dX3_room_1 rfl rfl ?_
  refine v_pf (pc' := 5) hc_X3_room ho_X3_room KX3 0 (Nat.le_of_ble_eq_true rfl) q2242 (Or.inl rfl) rfl dX3_room_2 rfl rfl rfl e (fun h1 _ e => ?_)
  refine v_aload_n (pc' := 6) hc_X3_room dX3_room_5 rfl rfl 0 rfl ?_
  obtain ⟨c2, e⟩ := gd_of e
  obtain ⟨r3, h4, e5, e⟩ := bd2_of e
  refine k_V (pc' := 9) (ci := 2) (n := 0) hc_X3_room ho_X3_room rfl c2 (w_X3_remembers D l hl x0 h1 e5) (wA_l q2324) q2326 (wA_l qs24) q85 q2327 hy_117 ⟨Nat.le_of_ble_eq_true rfl, Nat.le_of_ble_eq_true rfl⟩ rfl rfl (Nat.le_of_ble_eq_true rfl) dX3_room_6 rfl (kU ?_) kN
  refine v_iload_n (pc' := 10) hc_X3_room dX3_room_9 rfl rfl 1 rfl ?_
  refine v_sipush (pc' := 13) (v := 150) hc_X3_room dX3_room_10 rfl rfl ?_
  refine v_sipush (pc' := 16) (v := 400) hc_X3_room dX3_room_13 rfl rfl ?_
  obtain ⟨r6, h7, e8, e⟩ := bd2_of e
  refine k_S (pc' := 19) (n := 3) hc_X3_room ho_X3_room (w_X3_in D l hl x1 (150 : Int32) (400 : Int32) h4 e8) (wA_l q2328) q2329 q85 q2330 hy_118 ⟨Nat.le_of_ble_eq_true rfl, Nat.le_of_ble_eq_true rfl⟩ rfl rfl (Nat.le_of_ble_eq_true rfl) dX3_room_16 rfl (kS ?_) kN
  refine v_if_eq (pt := 46) (pf := 22) hc_X3_room dX3_room_19 rfl rfl e (fun _ e => ?_) (fun _ e => ?_)
  · refine v_aload_n (pc' := 47) hc_X3_room dX3_room_46 rfl rfl 0 rfl ?_
    refine v_iconst (pc' := 48) (v := 1) hc_X3_room dX3_room_47 rfl rfl ?_
    obtain ⟨c9, e⟩ := gd_of e
    obtain ⟨r10, h11, e12, e⟩ := bd2_of e
    refine k_V (pc' := 51) (ci := 2) (n := 1) hc_X3_room ho_X3_room rfl c9 (w_X3_fails D l hl x0 (1 : Int32) h7 e12) (wA_l q2351) q2353 (wA_l qs30) q85 q2354 hy_119 ⟨Nat.le_of_ble_eq_true rfl, Nat.le_of_ble_eq_true rfl⟩ rfl rfl (Nat.le_of_ble_eq_true rfl) dX3_room_48 rfl (kS ?_) kN
    obtain ⟨rfl, rfl⟩ := ret_of e
    exact v_iret hc_X3_room rfl dX3_room_51 rfl rfl
  · refine v_iload_n (pc' := 23) hc_X3_room dX3_room_22 rfl rfl 2 rfl ?_
    refine v_iconst (pc' := 24) (v := 1) hc_X3_room dX3_room_23 rfl rfl ?_
    refine v_bipush (pc' := 26) (v := 30) hc_X3_room dX3_room_24 rfl rfl ?_
    obtain ⟨r13, h14, e15, e⟩ := bd2_of e
    refine k_S (pc' := 29) (n := 3) hc_X3_room ho_X3_room (w_X3_in D l hl x2 (1 : Int32) (30 : Int32) h7 e15) (wA_l q2328) q2329 q85 q2330 hy_118 ⟨Nat.le_of_ble_eq_true rfl, Nat.le_of_ble_eq_true rfl⟩ rfl rfl (Nat.le_of_ble_eq_true rfl) dX3_room_26 rfl (kS ?_) kN
    refine v_if_eq (pt := 46) (pf := 32) hc_X3_room dX3_room_29 rfl rfl e (fun _ e => ?_) (fun _ e => ?_)
    · refine v_aload_n (pc' := 47) hc_X3_room dX3_room_46 rfl rfl 0 rfl ?_
      refine v_iconst (pc' := 48) (v := 1) hc_X3_room dX3_room_47 rfl rfl ?_
      obtain ⟨c16, e⟩ := gd_of e
      obtain ⟨r17, h18, e19, e⟩ := bd2_of e
      refine k_V (pc' := 51) (ci := 2) (n := 1) hc_X3_room ho_X3_room rfl c16 (w_X3_fails D l hl x0 (1 : Int32) h14 e19) (wA_l q2351) q2353 (wA_l qs30) q85 q2354 hy_119 ⟨Nat.le_of_ble_eq_true rfl, Nat.le_of_ble_eq_true rfl⟩ rfl rfl (Nat.le_of_ble_eq_true rfl) dX3_room_48 rfl (kS ?_) kN
      obtain ⟨rfl, rfl⟩ := ret_of e
      exact v_iret hc_X3_room rfl dX3_room_51 rfl rfl
    · refine v_aload_n (pc' := 33) hc_X3_room dX3_room_32 rfl rfl 0 rfl ?_
      refine v_aload_n (pc' := 34) hc_X3_room dX3_room_33 rfl rfl 0 rfl ?_
      refine v_iload_n (pc' := 35) hc_X3_room dX3_room_34 rfl rfl 1 rfl ?_
      refine v_iload_n (pc' := 36) hc_X3_room dX3_room_35 rfl rfl 2 rfl ?_
      obtain ⟨c20, e⟩ := gd_of e
      obtain ⟨r21, h22, e23, e⟩ := bd2_of e
      refine k_V (pc' := 39) (ci := 2) (n := 2) hc_X3_room ho_X3_room rfl c20 (w_X3_rooms D l hl x0 x1 x2 h14 e23) (wA_l q2462) q2464 (wA_l qs48) q85 q2465 hy_180 ⟨Nat.le_of_ble_eq_true rfl, Nat.le_of_ble_eq_true rfl⟩ rfl rfl (Nat.le_of_ble_eq_true rfl) dX3_room_36 rfl (kS ?_) kN
      refine v_iconst (pc' := 40) (v := 2) hc_X3_room dX3_room_39 rfl rfl ?_
      obtain ⟨c24, e⟩ := gd_of e
      obtain ⟨r25, h26, e27, e⟩ := bd2_of e
      refine k_V (pc' := 43) (ci := 2) (n := 2) hc_X3_room ho_X3_room rfl c24 (w_X3_ends D l hl x0 r21 (2 : Int32) h22 e27) (wA_l q2343) q2345 (wA_l qs28) q85 q2346 hy_124 ⟨Nat.le_of_ble_eq_true rfl, Nat.le_of_ble_eq_true rfl⟩ rfl rfl (Nat.le_of_ble_eq_true rfl) dX3_room_40 rfl (kS ?_) kN
      refine v_goto (pt := 51) hc_X3_room dX3_room_43 rfl ?_
      obtain ⟨rfl, rfl⟩ := ret_of e
      exact v_iret hc_X3_room rfl dX3_room_51 rfl rfl
theorem w_X3_room (D : va_G) (l : Launch) (hl : l.stackTraces = false) (x0 : Nat) (x1 : Int32) (x2 : Int32) (h : AH) {r : Int32} {hF : AH} (e : f_X3_room x0 x1 x2 h = some (r, hF)) : MetV D l yX3_room (Cond.code yX3_room cX3_room 3 (Option.some .int)) 3 93 [.ref x0, .int x1, .int x2] h hF (oI r) :=
  met_ofF (by decide +kernel) hl (Nat.le_of_ble_eq_true rfl) rfl (v_X3_room D l hl [.ref x0, .int x1, .int x2] h x0 x1 x2 h e)
/-! BlockPapersModel.isRoom(I)Z  -/
abbrev G_X3_isRoom (D : va_G) (l : Launch) (as : List Value) (h0 hF : AH) (o : Out) : CT := (D, l, (yX3_isRoom.cls, yX3_isRoom, cX3_isRoom, 2, (Option.some .boolean), 2, 70, []), as, h0, hF, o)
theorem hc_X3_isRoom {D : va_G} {l : Launch} {as : List Value} {h0 hF : AH} {o : Out} : gC (G_X3_isRoom D l as h0 hF o) = cX3_isRoom := rfl
theorem ho_X3_isRoom {D : va_G} {l : Launch} {as : List Value} {h0 hF : AH} {o : Out} : gO (G_X3_isRoom D l as h0 hF o) = "BlockPapersModel" := rfl
theorem hp_X3_isRoom {D : va_G} {l : Launch} {as : List Value} {h0 hF : AH} {o : Out} (pc : Nat) : ∀ z ∈ tableOf (gHd (G_X3_isRoom D l as h0 hF o)), covers z pc = false := hpN
def f_X3_isRoom (x0 : Nat) (x1 : Int32) (h : AH) : Option (Int32 × AH) :=
  bd (gtR h 2 x0 1) fun v1 =>
  bd (ldI h 0 v1 (3 : Int32)) fun v2 =>
  bd2 (f_X3_in x1 (0 : Int32) (v2 - (1 : Int32)) h) fun r3 h4 =>
  gd (nrw .boolean r3) <|
  some (r3, h4)
theorem v_X3_isRoom (D : va_G) (l : Launch) (hl : l.stackTraces = false) (as : List Value) (h0 : AH) {r : Int32} {hF : AH} (x0 : Nat) (x1 : Int32) (h : AH) (e : f_X3_isRoom x0 x1 h = some (r, hF)) : V (G_X3_isRoom D l as h0 hF (oI r)) h 0 [(0, .ref x0), (1, .int x1)] [] := by
  unfold f_X3_isRoom at e
  refine v_iload_n (pc' := 1) hc_X3_isRoom dX3_isRoom_0 rfl rfl 1 rfl ?_
  refine v_iconst (pc' := 2) (v := 0) hc_X3_isRoom dX3_isRoom_1 rfl rfl ?_
  refine v_aload_n (pc' := 3) hc_X3_isRoom dX3_isRoom_2 rfl rfl 0 rfl ?_
  refine v_gfR (pc' := 6) hc_X3_isRoom ho_X3_isRoom KX3 1 (Nat.le_of_ble_eq_true rfl) q2243 (Or.inl rfl) dX3_isRoom_3 rfl e (fun v1 _ e => ?_)
  refine v_iconst (pc' := 7) (v := 3) hc_X3_isRoom dX3_isRoom_6 rfl rfl ?_
  refine v_iald (pc' := 8) hc_X3_isRoom dX3_isRoom_7 rfl e (fun v2 _ e => ?_)
  refine v_iconst (pc' := 9) (v := 1) hc_X3_isRoom dX3_isRoom_8 rfl rfl ?_
  refine v_isub (pc' := 10) hc_X3_isRoom dX3_isRoom_9 rfl ?_
  obtain ⟨r3, h4, e5, e⟩ := bd2_of e
  refine k_S (pc' := 13) (n := 3) hc_X3_isRoom ho_X3_isRoom (w_X3_in D l hl x1 (0 : Int32) (v2 - (1 : Int32)) h e5) (wA_l q2328) q2329 q85 q2330 hy_118 ⟨Nat.le_of_ble_eq_true rfl, Nat.le_of_ble_eq_true rfl⟩ rfl rfl (Nat.le_of_ble_eq_true rfl) dX3_isRoom_10 rfl (kS ?_) kN
  obtain ⟨c6, e⟩ := gd_of e
  obtain ⟨rfl, rfl⟩ := ret_of e
  exact v_zret hc_X3_isRoom rfl (nrw_of c6) dX3_isRoom_13 rfl rfl
theorem w_X3_isRoom (D : va_G) (l : Launch) (hl : l.stackTraces = false) (x0 : Nat) (x1 : Int32) (h : AH) {r : Int32} {hF : AH} (e : f_X3_isRoom x0 x1 h = some (r, hF)) : MetV D l yX3_isRoom (Cond.code yX3_isRoom cX3_isRoom 2 (Option.some .boolean)) 2 70 [.ref x0, .int x1] h hF (oI r) :=
  met_ofF (by decide +kernel) hl (Nat.le_of_ble_eq_true rfl) rfl (v_X3_isRoom D l hl [.ref x0, .int x1] h x0 x1 h e)
/-! BlockPapersModel.firstRoll(I)I  -/
abbrev G_X3_firstRoll (D : va_G) (l : Launch) (as : List Value) (h0 hF : AH) (o : Out) : CT := (D, l, (yX3_firstRoll.cls, yX3_firstRoll, cX3_firstRoll, 2, (Option.some .int), 2, 69, []), as, h0, hF, o)
theorem hc_X3_firstRoll {D : va_G} {l : Launch} {as : List Value} {h0 hF : AH} {o : Out} : gC (G_X3_firstRoll D l as h0 hF o) = cX3_firstRoll := rfl
theorem ho_X3_firstRoll {D : va_G} {l : Launch} {as : List Value} {h0 hF : AH} {o : Out} : gO (G_X3_firstRoll D l as h0 hF o) = "BlockPapersModel" := rfl
theorem hp_X3_firstRoll {D : va_G} {l : Launch} {as : List Value} {h0 hF : AH} {o : Out} (pc : Nat) : ∀ z ∈ tableOf (gHd (G_X3_firstRoll D l as h0 hF o)), covers z pc = false := hpN
def f_X3_firstRoll (x0 : Nat) (x1 : Int32) (h : AH) : Option (Int32 × AH) :=
  bd (gtR h 2 x0 1) fun v1 =>
  bd2 (f_X3_dropAt x1 (0 : Int32) h) fun r2 h3 =>
  bd (ldI h3 0 v1 r2) fun v5 =>
  some (v5, h3)
theorem v_X3_firstRoll (D : va_G) (l : Launch) (hl : l.stackTraces = false) (as : List Value) (h0 : AH) {r : Int32} {hF : AH} (x0 : Nat) (x1 : Int32) (h : AH) (e : f_X3_firstRoll x0 x1 h = some (r, hF)) : V (G_X3_firstRoll D l as h0 hF (oI r)) h 0 [(0, .ref x0), (1, .int x1)] [] := by
  unfold f_X3_firstRoll at e
  refine v_aload_n (pc' := 1) hc_X3_firstRoll dX3_firstRoll_0 rfl rfl 0 rfl ?_
  refine v_gfR (pc' := 4) hc_X3_firstRoll ho_X3_firstRoll KX3 1 (Nat.le_of_ble_eq_true rfl) q2243 (Or.inl rfl) dX3_firstRoll_1 rfl e (fun v1 _ e => ?_)
  refine v_iload_n (pc' := 5) hc_X3_firstRoll dX3_firstRoll_4 rfl rfl 1 rfl ?_
  refine v_iconst (pc' := 6) (v := 0) hc_X3_firstRoll dX3_firstRoll_5 rfl rfl ?_
  obtain ⟨r2, h3, e4, e⟩ := bd2_of e
  refine k_S (pc' := 9) (n := 2) hc_X3_firstRoll ho_X3_firstRoll (w_X3_dropAt D l hl x1 (0 : Int32) h e4) (wA_l q2439) q2440 q85 q2441 hy_169 ⟨Nat.le_of_ble_eq_true rfl, Nat.le_of_ble_eq_true rfl⟩ rfl rfl (Nat.le_of_ble_eq_true rfl) dX3_firstRoll_6 rfl (kS ?_) kN
  refine v_iald (pc' := 10) hc_X3_firstRoll dX3_firstRoll_9 rfl e (fun v5 _ e => ?_)
  obtain ⟨rfl, rfl⟩ := ret_of e
  exact v_iret hc_X3_firstRoll rfl dX3_firstRoll_10 rfl rfl
theorem w_X3_firstRoll (D : va_G) (l : Launch) (hl : l.stackTraces = false) (x0 : Nat) (x1 : Int32) (h : AH) {r : Int32} {hF : AH} (e : f_X3_firstRoll x0 x1 h = some (r, hF)) : MetV D l yX3_firstRoll (Cond.code yX3_firstRoll cX3_firstRoll 2 (Option.some .int)) 2 69 [.ref x0, .int x1] h hF (oI r) :=
  met_ofF (by decide +kernel) hl (Nat.le_of_ble_eq_true rfl) rfl (v_X3_firstRoll D l hl [.ref x0, .int x1] h x0 x1 h e)
/-! BlockPapersModel.mustBegin(II)I  -/
abbrev G_X3_mustBegin (D : va_G) (l : Launch) (as : List Value) (h0 hF : AH) (o : Out) : CT := (D, l, (yX3_mustBegin.cls, yX3_mustBegin, cX3_mustBegin, 6, (Option.some .int), 3, 90, []), as, h0, hF, o)
theorem hc_X3_mustBegin {D : va_G} {l : Launch} {as : List Value} {h0 hF : AH} {o : Out} : gC (G_X3_mustBegin D l as h0 hF o) = cX3_mustBegin := rfl
theorem ho_X3_mustBegin {D : va_G} {l : Launch} {as : List Value} {h0 hF : AH} {o : Out} : gO (G_X3_mustBegin D l as h0 hF o) = "BlockPapersModel" := rfl
theorem hp_X3_mustBegin {D : va_G} {l : Launch} {as : List Value} {h0 hF : AH} {o : Out} (pc : Nat) : ∀ z ∈ tableOf (gHd (G_X3_mustBegin D l as h0 hF o)), covers z pc = false := hpN
def f_X3_mustBegin (x0 : Nat) (x1 : Int32) (x2 : Int32) (h : AH) : Option (Int32 × AH) :=
  gd (isC h 2 x0) <|
  bd2 (f_X3_firstRoll x0 x1 h) fun r2 h3 =>
  gd (isC h3 2 x0) <|
  bd2 (f_X3_rollRow x0 r2 (0 : Int32) h3) fun r6 h7 =>
  bd (gtR h7 2 x0 1) fun v9 =>
  bd2 (f_X3_dropAt x1 (0 : Int32) h7) fun r10 h11 =>
  bd (ldI h11 0 v9 (r10 + (1 : Int32))) fun v13 =>
  gd (isC h11 2 x0) <|
  bd2 (f_X3_blockRow x0 r6 (0 : Int32) h11) fun r15 h16 =>
  gd (isC h16 2 x0) <|
  bd2 (f_X3_blockRow x0 r6 (1 : Int32) h16) fun r19 h20 =>
  if r19 = (1 : Int32) then (
    if (x2 - x2 / (2 : Int32) * (2 : Int32)) = (1 : Int32) then (
      gd (decide (¬ r15 = 0)) <|
      some (((v13 + (r15 / (2 : Int32))) - (v13 + (r15 / (2 : Int32))) / r15 * r15), h20)
    ) else (
      some (v13, h20)
    )
  ) else (
    some (v13, h20)
  )
theorem v_X3_mustBegin (D : va_G) (l : Launch) (hl : l.stackTraces = false) (as : List Value) (h0 : AH) {r : Int32} {hF : AH} (x0 : Nat) (x1 : Int32) (x2 : Int32) (h : AH) (e : f_X3_mustBegin x0 x1 x2 h = some (r, hF)) : V (G_X3_mustBegin D l as h0 hF (oI r)) h 0 [(0, .ref x0), (1, .int x1), (2, .int x2)] [] := by
  unfold f_X3_mustBegin at e
  refine v_aload_n (pc' := 1) hc_X3_mustBegin dX3_mustBegin_0 rfl rfl 0 rfl ?_
  refine v_aload_n (pc' := 2) hc_X3_mustBegin dX3_mustBegin_1 rfl rfl 0 rfl ?_
  refine v_iload_n (pc' := 3) hc_X3_mustBegin dX3_mustBegin_2 rfl rfl 1 rfl ?_
  obtain ⟨c1, e⟩ := gd_of e
  obtain ⟨r2, h3, e4, e⟩ := bd2_of e
  refine k_V (pc' := 6) (ci := 2) (n := 1) hc_X3_mustBegin ho_X3_mustBegin rfl c1 (w_X3_firstRoll D l hl x0 x1 h e4) (wA_l q2474) q2476 (wA_l qs50) q85 q2477 hy_185 ⟨Nat.le_of_ble_eq_true rfl, Nat.le_of_ble_eq_true rfl⟩ rfl rfl (Nat.le_of_ble_eq_true rfl) dX3_mustBegin_3 rfl (kS ?_) kN
  refine v_iconst (pc' := 7) (v := 0) hc_X3_mustBegin dX3_mustBegin_6 rfl rfl ?_
  obtain ⟨c5, e⟩ := gd_of e
  obtain ⟨r6, h7, e8, e⟩ := bd2_of e
  refine k_V (pc' := 10) (ci := 2) (n := 2) hc_X3_mustBegin ho_X3_mustBegin rfl c5 (w_X3_rollRow D l hl x0 r2 (0 : Int32) h3 e8) (wA_l q2419) q2421 (wA_l qs40) q85 q2422 hy_165 ⟨Nat.le_of_ble_eq_true rfl, Nat.le_of_ble_eq_true rfl⟩ rfl rfl (Nat.le_of_ble_eq_true rfl) dX3_mustBegin_7 rfl (kS ?_) kN
  refine v_istore_n (pc' := 11) (lv' := [(3, .int r6), (0, .ref x0), (1, .int x1), (2, .int x2)]) hc_X3_mustBegin dX3_mustBegin_10 rfl rfl (Nat.le_of_ble_eq_true rfl) rfl ?_
  refine v_aload_n (pc' := 12) hc_X3_mustBegin dX3_mustBegin_11 rfl rfl 1 rfl ?_
  refine v_gfR (pc' := 15) hc_X3_mustBegin ho_X3_mustBegin KX3 1 (Nat.le_of_ble_eq_true rfl) q2243 (Or.inl rfl) dX3_mustBegin_12 rfl e (fun v9 _ e => ?_)
  refine v_iload_n (pc' := 16) hc_X3_mustBegin dX3_mustBegin_15 rfl rfl 2 rfl ?_
  refine v_iconst (pc' := 17) (v := 0) hc_X3_mustBegin dX3_mustBegin_16 rfl rfl ?_
  obtain ⟨r10, h11, e12, e⟩ := bd2_of e
  refine k_S (pc' := 20) (n := 2) hc_X3_mustBegin ho_X3_mustBegin (w_X3_dropAt D l hl x1 (0 : Int32) h7 e12) (wA_l q2439) q2440 q85 q2441 hy_169 ⟨Nat.le_of_ble_eq_true rfl, Nat.le_of_ble_eq_true rfl⟩ rfl rfl (Nat.le_of_ble_eq_true rfl) dX3_mustBegin_17 rfl (kS ?_) kN
  refine v_iconst (pc' := 21) (v := 1) hc_X3_mustBegin dX3_mustBegin_20 rfl rfl ?_
  refine v_iadd (pc' := 22) hc_X3_mustBegin dX3_mustBegin_21 rfl ?_
  refine v_iald (pc' := 23) hc_X3_mustBegin dX3_mustBegin_22 rfl e (fun v13 _ e => ?_)
  refine v_istore (pc' := 25) (lv' := [(4, .int v13), (3, .int r6), (0, .ref x0), (1, .int x1), (2, .int x2)]) hc_X3_mustBegin dX3_mustBegin_23 rfl (Nat.le_of_ble_eq_true rfl) rfl ?_
  refine v_aload_n (pc' := 26) hc_X3_mustBegin dX3_mustBegin_25 rfl rfl 2 rfl ?_
  refine v_iload_n (pc' := 27) hc_X3_mustBegin dX3_mustBegin_26 rfl rfl 1 rfl ?_
  refine v_iconst (pc' := 28) (v := 0) hc_X3_mustBegin dX3_mustBegin_27 rfl rfl ?_
  obtain ⟨c14, e⟩ := gd_of e
  obtain ⟨r15, h16, e17, e⟩ := bd2_of e
  refine k_V (pc' := 31) (ci := 2) (n := 2) hc_X3_mustBegin ho_X3_mustBegin rfl c14 (w_X3_blockRow D l hl x0 r6 (0 : Int32) h11 e17) (wA_l q2363) q2365 (wA_l qs32) q85 q2366 hy_131 ⟨Nat.le_of_ble_eq_true rfl, Nat.le_of_ble_eq_true rfl⟩ rfl rfl (Nat.le_of_ble_eq_true rfl) dX3_mustBegin_28 rfl (kS ?_) kN
  refine v_istore (pc' := 33) (lv' := [(5, .int r15), (4, .int v13), (3, .int r6), (0, .ref x0), (1, .int x1), (2, .int x2)]) hc_X3_mustBegin dX3_mustBegin_31 rfl (Nat.le_of_ble_eq_true rfl) rfl ?_
  refine v_aload_n (pc' := 34) hc_X3_mustBegin dX3_mustBegin_33 rfl rfl 3 rfl ?_
  refine v_iload_n (pc' := 35) hc_X3_mustBegin dX3_mustBegin_34 rfl rfl 2 rfl ?_
  refine v_iconst (pc' := 36) (v := 1) hc_X3_mustBegin dX3_mustBegin_35 rfl rfl ?_
  obtain ⟨c18, e⟩ := gd_of e
  obtain ⟨r19, h20, e21, e⟩ := bd2_of e
  refine k_V (pc' := 39) (ci := 2) (n := 2) hc_X3_mustBegin ho_X3_mustBegin rfl c18 (w_X3_blockRow D l hl x0 r6 (1 : Int32) h16 e21) (wA_l q2363) q2365 (wA_l qs32) q85 q2366 hy_131 ⟨Nat.le_of_ble_eq_true rfl, Nat.le_of_ble_eq_true rfl⟩ rfl rfl (Nat.le_of_ble_eq_true rfl) dX3_mustBegin_36 rfl (kS ?_) kN
  refine v_iconst (pc' := 40) (v := 1) hc_X3_mustBegin dX3_mustBegin_39 rfl rfl ?_
  refine v_icmp_ne (pt := 63) (pf := 43) hc_X3_mustBegin dX3_mustBegin_40 rfl rfl e (fun _ e => ?_) (fun _ e => ?_)
  · refine v_iload_n (pc' := 44) hc_X3_mustBegin dX3_mustBegin_43 rfl rfl 5 rfl ?_
    refine v_iconst (pc' := 45) (v := 2) hc_X3_mustBegin dX3_mustBegin_44 rfl rfl ?_
    refine v_irem (pc' := 46) hc_X3_mustBegin dX3_mustBegin_45 rfl (by decide) ?_
    refine v_iconst (pc' := 47) (v := 1) hc_X3_mustBegin dX3_mustBegin_46 rfl rfl ?_
    refine v_icmp_ne (pt := 63) (pf := 50) hc_X3_mustBegin dX3_mustBegin_47 rfl rfl e (fun _ e => ?_) (fun _ e => ?_)
    · refine v_iload (pc' := 52) hc_X3_mustBegin dX3_mustBegin_50 rfl 1 rfl ?_
      refine v_iload (pc' := 54) hc_X3_mustBegin dX3_mustBegin_52 rfl 0 rfl ?_
      refine v_iconst (pc' := 55) (v := 2) hc_X3_mustBegin dX3_mustBegin_54 rfl rfl ?_
      refine v_idiv (pc' := 56) hc_X3_mustBegin dX3_mustBegin_55 rfl (by decide) ?_
      refine v_iadd (pc' := 57) hc_X3_mustBegin dX3_mustBegin_56 rfl ?_
      refine v_iload (pc' := 59) hc_X3_mustBegin dX3_mustBegin_57 rfl 0 rfl ?_
      obtain ⟨c22, e⟩ := gd_of e
      refine v_irem (pc' := 60) hc_X3_mustBegin dX3_mustBegin_59 rfl (of_decide_eq_true c22) ?_
      refine v_goto (pt := 65) hc_X3_mustBegin dX3_mustBegin_60 rfl ?_
      obtain ⟨rfl, rfl⟩ := ret_of e
      exact v_iret hc_X3_mustBegin rfl dX3_mustBegin_65 rfl rfl
    · refine v_iload (pc' := 65) hc_X3_mustBegin dX3_mustBegin_63 rfl 1 rfl ?_
      obtain ⟨rfl, rfl⟩ := ret_of e
      exact v_iret hc_X3_mustBegin rfl dX3_mustBegin_65 rfl rfl
  · refine v_iload (pc' := 65) hc_X3_mustBegin dX3_mustBegin_63 rfl 1 rfl ?_
    obtain ⟨rfl, rfl⟩ := ret_of e
    exact v_iret hc_X3_mustBegin rfl dX3_mustBegin_65 rfl rfl
theorem w_X3_mustBegin (D : va_G) (l : Launch) (hl : l.stackTraces = false) (x0 : Nat) (x1 : Int32) (x2 : Int32) (h : AH) {r : Int32} {hF : AH} (e : f_X3_mustBegin x0 x1 x2 h = some (r, hF)) : MetV D l yX3_mustBegin (Cond.code yX3_mustBegin cX3_mustBegin 6 (Option.some .int)) 3 90 [.ref x0, .int x1, .int x2] h hF (oI r) :=
  met_ofF (by decide +kernel) hl (Nat.le_of_ble_eq_true rfl) rfl (v_X3_mustBegin D l hl [.ref x0, .int x1, .int x2] h x0 x1 x2 h e)
/-! BlockPapersModel.target(I)I  -/
abbrev G_X3_target (D : va_G) (l : Launch) (as : List Value) (h0 hF : AH) (o : Out) : CT := (D, l, (yX3_target.cls, yX3_target, cX3_target, 3, (Option.some .int), 4, 115, []), as, h0, hF, o)
theorem hc_X3_target {D : va_G} {l : Launch} {as : List Value} {h0 hF : AH} {o : Out} : gC (G_X3_target D l as h0 hF o) = cX3_target := rfl
theorem ho_X3_target {D : va_G} {l : Launch} {as : List Value} {h0 hF : AH} {o : Out} : gO (G_X3_target D l as h0 hF o) = "BlockPapersModel" := rfl
theorem hp_X3_target {D : va_G} {l : Launch} {as : List Value} {h0 hF : AH} {o : Out} (pc : Nat) : ∀ z ∈ tableOf (gHd (G_X3_target D l as h0 hF o)), covers z pc = false := hpN
def f_X3_target (x0 : Nat) (x1 : Int32) (h : AH) : Option (Int32 × AH) :=
  gd (isC h 2 x0) <|
  bd2 (f_X3_roomRow x0 x1 (2 : Int32) h) fun r2 h3 =>
  if r2 = 0 then (
    some ((-1 : Int32), h3)
  ) else (
    gd (isC h3 2 x0) <|
    bd2 (f_X3_mustBegin x0 x1 r2 h3) fun r6 h7 =>
    some (r6, h7)
  )
theorem v_X3_target (D : va_G) (l : Launch) (hl : l.stackTraces = false) (as : List Value) (h0 : AH) {r : Int32} {hF : AH} (x0 : Nat) (x1 : Int32) (h : AH) (e : f_X3_target x0 x1 h = some (r, hF)) : V (G_X3_target D l as h0 hF (oI r)) h 0 [(0, .ref x0), (1, .int x1)] [] := by
  unfold f_X3_target at e
  refine v_aload_n (pc' := 1) hc_X3_target dX3_target_0 rfl rfl 0 rfl ?_
  refine v_iload_n (pc' := 2) hc_X3_target dX3_target_1 rfl rfl 1 rfl ?_
  refine v_iconst (pc' := 3) (v := 2) hc_X3_target dX3_target_2 rfl rfl ?_
  obtain ⟨c1, e⟩ := gd_of e
  obtain ⟨r2, h3, e4, e⟩ := bd2_of e
  refine k_V (pc' := 6) (ci := 2) (n := 2) hc_X3_target ho_X3_target rfl c1 (w_X3_roomRow D l hl x0 x1 (2 : Int32) h e4) (wA_l q2435) q2437 (wA_l qs44) q85 q2438 hy_168 ⟨Nat.le_of_ble_eq_true rfl, Nat.le_of_ble_eq_true rfl⟩ rfl rfl (Nat.le_of_ble_eq_true rfl) dX3_target_3 rfl (kS ?_) kN
  refine v_istore_n (pc' := 7) (lv' := [(2, .int r2), (0, .ref x0), (1, .int x1)]) hc_X3_target dX3_target_6 rfl rfl (Nat.le_of_ble_eq_true rfl) rfl ?_
  refine v_iload_n (pc' := 8) hc_X3_target dX3_target_7 rfl rfl 0 rfl ?_
  refine v_if_ne (pt := 13) (pf := 11) hc_X3_target dX3_target_8 rfl rfl e (fun _ e => ?_) (fun _ e => ?_)
  · refine v_iconst (pc' := 12) (v := (-1)) hc_X3_target dX3_target_11 rfl rfl ?_
    obtain ⟨rfl, rfl⟩ := ret_of e
    exact v_iret hc_X3_target rfl dX3_target_12 rfl rfl
  · refine v_aload_n (pc' := 14) hc_X3_target dX3_target_13 rfl rfl 1 rfl ?_
    refine v_iload_n (pc' := 15) hc_X3_target dX3_target_14 rfl rfl 2 rfl ?_
    refine v_iload_n (pc' := 16) hc_X3_target dX3_target_15 rfl rfl 0 rfl ?_
    obtain ⟨c5, e⟩ := gd_of e
    obtain ⟨r6, h7, e8, e⟩ := bd2_of e
    refine k_V (pc' := 19) (ci := 2) (n := 2) hc_X3_target ho_X3_target rfl c5 (w_X3_mustBegin D l hl x0 x1 r2 h3 e8) (wA_l q2482) q2484 (wA_l qs52) q85 q2485 hy_186 ⟨Nat.le_of_ble_eq_true rfl, Nat.le_of_ble_eq_true rfl⟩ rfl rfl (Nat.le_of_ble_eq_true rfl) dX3_target_16 rfl (kS ?_) kN
    obtain ⟨rfl, rfl⟩ := ret_of e
    exact v_iret hc_X3_target rfl dX3_target_19 rfl rfl
theorem w_X3_target (D : va_G) (l : Launch) (hl : l.stackTraces = false) (x0 : Nat) (x1 : Int32) (h : AH) {r : Int32} {hF : AH} (e : f_X3_target x0 x1 h = some (r, hF)) : MetV D l yX3_target (Cond.code yX3_target cX3_target 3 (Option.some .int)) 4 115 [.ref x0, .int x1] h hF (oI r) :=
  met_ofF (by decide +kernel) hl (Nat.le_of_ble_eq_true rfl) rfl (v_X3_target D l hl [.ref x0, .int x1] h x0 x1 h e)
/-! BlockPapersModel.roomOf(II)I  -/
abbrev G_X3_roomOf (D : va_G) (l : Launch) (as : List Value) (h0 hF : AH) (o : Out) : CT := (D, l, (yX3_roomOf.cls, yX3_roomOf, cX3_roomOf, 4, (Option.some .int), 5, 137, []), as, h0, hF, o)
theorem hc_X3_roomOf {D : va_G} {l : Launch} {as : List Value} {h0 hF : AH} {o : Out} : gC (G_X3_roomOf D l as h0 hF o) = cX3_roomOf := rfl
theorem ho_X3_roomOf {D : va_G} {l : Launch} {as : List Value} {h0 hF : AH} {o : Out} : gO (G_X3_roomOf D l as h0 hF o) = "BlockPapersModel" := rfl
theorem hp_X3_roomOf {D : va_G} {l : Launch} {as : List Value} {h0 hF : AH} {o : Out} (pc : Nat) : ∀ z ∈ tableOf (gHd (G_X3_roomOf D l as h0 hF o)), covers z pc = false := hpN
def f_X3_roomOf (x0 : Nat) (x1 : Int32) (x2 : Int32) (h : AH) : Option (Int32 × AH) :=
  bd (stF h 2 x0 0 (.int (0 : Int32))) fun h1 =>
  gd (isC h1 2 x0) <|
  bd2 (f_X3_isRoom x0 x1 h1) fun r3 h4 =>
  if r3 = 0 then (
    gd (isC h4 2 x0) <|
    bd2 (f_X3_fails x0 (1 : Int32) h4) fun r7 h8 =>
    some (r7, h8)
  ) else (
    gd (isC h4 2 x0) <|
    bd2 (f_X3_roomRow x0 x1 (2 : Int32) h4) fun r11 h12 =>
    if x2 = 0 then (
      gd (isC h12 2 x0) <|
      bd2 (f_X3_roomRow x0 x1 x2 h12) fun r15 h16 =>
      some (r15, h16)
    ) else (
    if x2 = 1 then (
      gd (isC h12 2 x0) <|
      bd2 (f_X3_roomRow x0 x1 x2 h12) fun r20 h21 =>
      some (r20, h21)
    ) else (
    if x2 = 2 then (
      gd (isC h12 2 x0) <|
      bd2 (f_X3_roomRow x0 x1 x2 h12) fun r25 h26 =>
      some (r25, h26)
    ) else (
    if x2 = 3 then (
      if r11 = 0 then (
        some ((-1 : Int32), h12)
      ) else (
        gd (isC h12 2 x0) <|
        bd2 (f_X3_firstRoll x0 x1 h12) fun r30 h31 =>
        gd (isC h31 2 x0) <|
        bd2 (f_X3_rollRow x0 r30 (0 : Int32) h31) fun r34 h35 =>
        some (r34, h35)
      )
    ) else (
    if x2 = 4 then (
      if r11 = 0 then (
        some ((-1 : Int32), h12)
      ) else (
        gd (isC h12 2 x0) <|
        bd2 (f_X3_firstRoll x0 x1 h12) fun r39 h40 =>
        gd (isC h40 2 x0) <|
        bd2 (f_X3_colourOf x0 r39 h40) fun r43 h44 =>
        some (r43, h44)
      )
    ) else (
    if x2 = 5 then (
      gd (isC h12 2 x0) <|
      bd2 (f_X3_roomRow x0 x1 (3 : Int32) h12) fun r48 h49 =>
      some (r48, h49)
    ) else (
    if x2 = 6 then (
      gd (isC h12 2 x0) <|
      bd2 (f_X3_roomRow x0 x1 (4 : Int32) h12) fun r53 h54 =>
      some (r53, h54)
    ) else (
    if x2 = 7 then (
      gd (isC h12 2 x0) <|
      bd2 (f_X3_roomRow x0 x1 (1 : Int32) h12) fun r58 h59 =>
      if r11 = r58 then (
        some ((-1 : Int32), h59)
      ) else (
        gd (isC h59 2 x0) <|
        bd2 (f_X3_target x0 x1 h59) fun r62 h63 =>
        some (r62, h63)
      )
    ) else (
    gd (isC h12 2 x0) <|
    bd2 (f_X3_fails x0 (2 : Int32) h12) fun r67 h68 =>
    some (r67, h68)
    ))))))))
  )
theorem v_X3_roomOf (D : va_G) (l : Launch) (hl : l.stackTraces = false) (as : List Value) (h0 : AH) {r : Int32} {hF : AH} (x0 : Nat) (x1 : Int32) (x2 : Int32) (h : AH) (e : f_X3_roomOf x0 x1 x2 h = some (r, hF)) : V (G_X3_roomOf D l as h0 hF (oI r)) h 0 [(0, .ref x0), (1, .int x1), (2, .int x2)] [] := by
  unfold f_X3_roomOf at e
  refine v_aload_n (pc' := 1) hc_X3_roomOf dX3_roomOf_0 rfl rfl 0 rfl ?_
  refine v_iconst (pc' := 2) (v := 0) hc_X3_roomOf dX3_roomOf_1 rfl rfl ?_
  refine v_pf (pc' := 5) hc_X3_roomOf ho_X3_roomOf KX3 0 (Nat.le_of_ble_eq_true rfl) q2242 (Or.inl rfl) rfl dX3_roomOf_2 rfl rfl rfl e (fun h1 _ e => ?_)
  refine v_aload_n (pc' := 6) hc_X3_roomOf dX3_roomOf_5 rfl rfl 0 rfl ?_
  refine v_iload_n (pc' := 7) hc_X3_roomOf dX3_roomOf_6 rfl rfl 1 rfl ?_
  obtain ⟨c2, e⟩ := gd_of e
  obtain ⟨r3, h4, e5, e⟩ := bd2_of e
  refine k_V (pc' := 10) (ci := 2) (n := 1) hc_X3_roomOf ho_X3_roomOf rfl c2 (w_X3_isRoom D l hl x0 x1 h1 e5) (wA_l q2470) q2472 (wA_l qs49) q85 q2473 hy_184 ⟨Nat.le_of_ble_eq_true rfl, Nat.le_of_ble_eq_true rfl⟩ rfl rfl (Nat.le_of_ble_eq_true rfl) dX3_roomOf_7 rfl (kS ?_) kN
  refine v_if_ne (pt := 19) (pf := 13) hc_X3_roomOf dX3_roomOf_10 rfl rfl e (fun _ e => ?_) (fun _ e => ?_)
  · refine v_aload_n (pc' := 14) hc_X3_roomOf dX3_roomOf_13 rfl rfl 0 rfl ?_
    refine v_iconst (pc' := 15) (v := 1) hc_X3_roomOf dX3_roomOf_14 rfl rfl ?_
    obtain ⟨c6, e⟩ := gd_of e
    obtain ⟨r7, h8, e9, e⟩ := bd2_of e
    refine k_V (pc' := 18) (ci := 2) (n := 1) hc_X3_roomOf ho_X3_roomOf rfl c6 (w_X3_fails D l hl x0 (1 : Int32) h4 e9) (wA_l q2351) q2353 (wA_l qs30) q85 q2354 hy_119 ⟨Nat.le_of_ble_eq_true rfl, Nat.le_of_ble_eq_true rfl⟩ rfl rfl (Nat.le_of_ble_eq_true rfl) dX3_roomOf_15 rfl (kS ?_) kN
    obtain ⟨rfl, rfl⟩ := ret_of e
    exact v_iret hc_X3_roomOf rfl dX3_roomOf_18 rfl rfl
  · refine v_aload_n (pc' := 20) hc_X3_roomOf dX3_roomOf_19 rfl rfl 0 rfl ?_
    refine v_iload_n (pc' := 21) hc_X3_roomOf dX3_roomOf_20 rfl rfl 1 rfl ?_
    refine v_iconst (pc' := 22) (v := 2) hc_X3_roomOf dX3_roomOf_21 rfl rfl ?_
    obtain ⟨c10, e⟩ := gd_of e
    obtain ⟨r11, h12, e13, e⟩ := bd2_of e
    refine k_V (pc' := 25) (ci := 2) (n := 2) hc_X3_roomOf ho_X3_roomOf rfl c10 (w_X3_roomRow D l hl x0 x1 (2 : Int32) h4 e13) (wA_l q2435) q2437 (wA_l qs44) q85 q2438 hy_168 ⟨Nat.le_of_ble_eq_true rfl, Nat.le_of_ble_eq_true rfl⟩ rfl rfl (Nat.le_of_ble_eq_true rfl) dX3_roomOf_22 rfl (kS ?_) kN
    refine v_istore_n (pc' := 26) (lv' := [(3, .int r11), (0, .ref x0), (1, .int x1), (2, .int x2)]) hc_X3_roomOf dX3_roomOf_25 rfl rfl (Nat.le_of_ble_eq_true rfl) rfl ?_
    refine v_iload_n (pc' := 27) hc_X3_roomOf dX3_roomOf_26 rfl rfl 3 rfl ?_
    rcases ite_cs e with ⟨n18, e⟩ | ⟨n18, e⟩
    · refine v_tbl (off := 45) (pt := 72) hc_X3_roomOf dX3_roomOf_27 rfl rfl (by rw [n18]; rfl) rfl ?_
      refine v_aload_n (pc' := 73) hc_X3_roomOf dX3_roomOf_72 rfl rfl 1 rfl ?_
      refine v_iload_n (pc' := 74) hc_X3_roomOf dX3_roomOf_73 rfl rfl 2 rfl ?_
      refine v_iload_n (pc' := 75) hc_X3_roomOf dX3_roomOf_74 rfl rfl 3 rfl ?_
      obtain ⟨c14, e⟩ := gd_of e
      obtain ⟨r15, h16, e17, e⟩ := bd2_of e
      refine k_V (pc' := 78) (ci := 2) (n := 2) hc_X3_roomOf ho_X3_roomOf rfl c14 (w_X3_roomRow D l hl x0 x1 x2 h12 e17) (wA_l q2435) q2437 (wA_l qs44) q85 q2438 hy_168 ⟨Nat.le_of_ble_eq_true rfl, Nat.le_of_ble_eq_true rfl⟩ rfl rfl (Nat.le_of_ble_eq_true rfl) dX3_roomOf_75 rfl (kS ?_) kN
      obtain ⟨rfl, rfl⟩ := ret_of e
      exact v_iret hc_X3_roomOf rfl dX3_roomOf_78 rfl rfl
    rcases ite_cs e with ⟨n23, e⟩ | ⟨n23, e⟩
    · refine v_tbl (off := 45) (pt := 72) hc_X3_roomOf dX3_roomOf_27 rfl rfl (by rw [n23]; rfl) rfl ?_
      refine v_aload_n (pc' := 73) hc_X3_roomOf dX3_roomOf_72 rfl rfl 1 rfl ?_
      refine v_iload_n (pc' := 74) hc_X3_roomOf dX3_roomOf_73 rfl rfl 2 rfl ?_
      refine v_iload_n (pc' := 75) hc_X3_roomOf dX3_roomOf_74 rfl rfl 3 rfl ?_
      obtain ⟨c19, e⟩ := gd_of e
      obtain ⟨r20, h21, e22, e⟩ := bd2_of e
      refine k_V (pc' := 78) (ci := 2) (n := 2) hc_X3_roomOf ho_X3_roomOf rfl c19 (w_X3_roomRow D l hl x0 x1 x2 h12 e22) (wA_l q2435) q2437 (wA_l qs44) q85 q2438 hy_168 ⟨Nat.le_of_ble_eq_true rfl, Nat.le_of_ble_eq_true rfl⟩ rfl rfl (Nat.le_of_ble_eq_true rfl) dX3_roomOf_75 rfl (kS ?_) kN
      obtain ⟨rfl, rfl⟩ := ret_of e
      exact v_iret hc_X3_roomOf rfl dX3_roomOf_78 rfl rfl
    rcases ite_cs e with ⟨n28, e⟩ | ⟨n28, e⟩
    · refine v_tbl (off := 45) (pt := 72) hc_X3_roomOf dX3_roomOf_27 rfl rfl (by rw [n28]; rfl) rfl ?_
      refine v_aload_n (pc' := 73) hc_X3_roomOf dX3_roomOf_72 rfl rfl 1 rfl ?_
      refine v_iload_n (pc' := 74) hc_X3_roomOf dX3_roomOf_73 rfl rfl 2 rfl ?_
      refine v_iload_n (pc' := 75) hc_X3_roomOf dX3_roomOf_74 rfl rfl 3 rfl ?_
      obtain ⟨c24, e⟩ := gd_of e
      obtain ⟨r25, h26, e27, e⟩ := bd2_of e
      refine k_V (pc' := 78) (ci := 2) (n := 2) hc_X3_roomOf ho_X3_roomOf rfl c24 (w_X3_roomRow D l hl x0 x1 x2 h12 e27) (wA_l q2435) q2437 (wA_l qs44) q85 q2438 hy_168 ⟨Nat.le_of_ble_eq_true rfl, Nat.le_of_ble_eq_true rfl⟩ rfl rfl (Nat.le_of_ble_eq_true rfl) dX3_roomOf_75 rfl (kS ?_) kN
      obtain ⟨rfl, rfl⟩ := ret_of e
      exact v_iret hc_X3_roomOf rfl dX3_roomOf_78 rfl rfl
    rcases ite_cs e with ⟨n37, e⟩ | ⟨n37, e⟩
    · refine v_tbl (off := 52) (pt := 79) hc_X3_roomOf dX3_roomOf_27 rfl rfl (by rw [n37]; rfl) rfl ?_
      refine v_iload_n (pc' := 80) hc_X3_roomOf dX3_roomOf_79 rfl rfl 0 rfl ?_
      refine v_if_ne (pt := 87) (pf := 83) hc_X3_roomOf dX3_roomOf_80 rfl rfl e (fun _ e => ?_) (fun _ e => ?_)
      · refine v_iconst (pc' := 84) (v := (-1)) hc_X3_roomOf dX3_roomOf_83 rfl rfl ?_
        refine v_goto (pt := 97) hc_X3_roomOf dX3_roomOf_84 rfl ?_
        obtain ⟨rfl, rfl⟩ := ret_of e
        exact v_iret hc_X3_roomOf rfl dX3_roomOf_97 rfl rfl
      · refine v_aload_n (pc' := 88) hc_X3_roomOf dX3_roomOf_87 rfl rfl 1 rfl ?_
        refine v_aload_n (pc' := 89) hc_X3_roomOf dX3_roomOf_88 rfl rfl 1 rfl ?_
        refine v_iload_n (pc' := 90) hc_X3_roomOf dX3_roomOf_89 rfl rfl 2 rfl ?_
        obtain ⟨c29, e⟩ := gd_of e
        obtain ⟨r30, h31, e32, e⟩ := bd2_of e
        refine k_V (pc' := 93) (ci := 2) (n := 1) hc_X3_roomOf ho_X3_roomOf rfl c29 (w_X3_firstRoll D l hl x0 x1 h12 e32) (wA_l q2474) q2476 (wA_l qs50) q85 q2477 hy_185 ⟨Nat.le_of_ble_eq_true rfl, Nat.le_of_ble_eq_true rfl⟩ rfl rfl (Nat.le_of_ble_eq_true rfl) dX3_roomOf_90 rfl (kS ?_) kN
        refine v_iconst (pc' := 94) (v := 0) hc_X3_roomOf dX3_roomOf_93 rfl rfl ?_
        obtain ⟨c33, e⟩ := gd_of e
        obtain ⟨r34, h35, e36, e⟩ := bd2_of e
        refine k_V (pc' := 97) (ci := 2) (n := 2) hc_X3_roomOf ho_X3_roomOf rfl c33 (w_X3_rollRow D l hl x0 r30 (0 : Int32) h31 e36) (wA_l q2419) q2421 (wA_l qs40) q85 q2422 hy_165 ⟨Nat.le_of_ble_eq_true rfl, Nat.le_of_ble_eq_true rfl⟩ rfl rfl (Nat.le_of_ble_eq_true rfl) dX3_roomOf_94 rfl (kS ?_) kN
        obtain ⟨rfl, rfl⟩ := ret_of e
        exact v_iret hc_X3_roomOf rfl dX3_roomOf_97 rfl rfl
    rcases ite_cs e with ⟨n46, e⟩ | ⟨n46, e⟩
    · refine v_tbl (off := 71) (pt := 98) hc_X3_roomOf dX3_roomOf_27 rfl rfl (by rw [n46]; rfl) rfl ?_
      refine v_iload_n (pc' := 99) hc_X3_roomOf dX3_roomOf_98 rfl rfl 0 rfl ?_
      refine v_if_ne (pt := 106) (pf := 102) hc_X3_roomOf dX3_roomOf_99 rfl rfl e (fun _ e => ?_) (fun _ e => ?_)
      · refine v_iconst (pc' := 103) (v := (-1)) hc_X3_roomOf dX3_roomOf_102 rfl rfl ?_
        refine v_goto (pt := 115) hc_X3_roomOf dX3_roomOf_103 rfl ?_
        obtain ⟨rfl, rfl⟩ := ret_of e
        exact v_iret hc_X3_roomOf rfl dX3_roomOf_115 rfl rfl
      · refine v_aload_n (pc' := 107) hc_X3_roomOf dX3_roomOf_106 rfl rfl 1 rfl ?_
        refine v_aload_n (pc' := 108) hc_X3_roomOf dX3_roomOf_107 rfl rfl 1 rfl ?_
        refine v_iload_n (pc' := 109) hc_X3_roomOf dX3_roomOf_108 rfl rfl 2 rfl ?_
        obtain ⟨c38, e⟩ := gd_of e
        obtain ⟨r39, h40, e41, e⟩ := bd2_of e
        refine k_V (pc' := 112) (ci := 2) (n := 1) hc_X3_roomOf ho_X3_roomOf rfl c38 (w_X3_firstRoll D l hl x0 x1 h12 e41) (wA_l q2474) q2476 (wA_l qs50) q85 q2477 hy_185 ⟨Nat.le_of_ble_eq_true rfl, Nat.le_of_ble_eq_true rfl⟩ rfl rfl (Nat.le_of_ble_eq_true rfl) dX3_roomOf_109 rfl (kS ?_) kN
        obtain ⟨c42, e⟩ := gd_of e
        obtain ⟨r43, h44, e45, e⟩ := bd2_of e
        refine k_V (pc' := 115) (ci := 2) (n := 1) hc_X3_roomOf ho_X3_roomOf rfl c42 (w_X3_colourOf D l hl x0 r39 h40 e45) (wA_l q2423) q2425 (wA_l qs41) q85 q2426 hy_166 ⟨Nat.le_of_ble_eq_true rfl, Nat.le_of_ble_eq_true rfl⟩ rfl rfl (Nat.le_of_ble_eq_true rfl) dX3_roomOf_112 rfl (kS ?_) kN
        obtain ⟨rfl, rfl⟩ := ret_of e
        exact v_iret hc_X3_roomOf rfl dX3_roomOf_115 rfl rfl
    rcases ite_cs e with ⟨n51, e⟩ | ⟨n51, e⟩
    · refine v_tbl (off := 89) (pt := 116) hc_X3_roomOf dX3_roomOf_27 rfl rfl (by rw [n51]; rfl) rfl ?_
      refine v_aload_n (pc' := 117) hc_X3_roomOf dX3_roomOf_116 rfl rfl 1 rfl ?_
      refine v_iload_n (pc' := 118) hc_X3_roomOf dX3_roomOf_117 rfl rfl 2 rfl ?_
      refine v_iconst (pc' := 119) (v := 3) hc_X3_roomOf dX3_roomOf_118 rfl rfl ?_
      obtain ⟨c47, e⟩ := gd_of e
      obtain ⟨r48, h49, e50, e⟩ := bd2_of e
      refine k_V (pc' := 122) (ci := 2) (n := 2) hc_X3_roomOf ho_X3_roomOf rfl c47 (w_X3_roomRow D l hl x0 x1 (3 : Int32) h12 e50) (wA_l q2435) q2437 (wA_l qs44) q85 q2438 hy_168 ⟨Nat.le_of_ble_eq_true rfl, Nat.le_of_ble_eq_true rfl⟩ rfl rfl (Nat.le_of_ble_eq_true rfl) dX3_roomOf_119 rfl (kS ?_) kN
      obtain ⟨rfl, rfl⟩ := ret_of e
      exact v_iret hc_X3_roomOf rfl dX3_roomOf_122 rfl rfl
    rcases ite_cs e with ⟨n56, e⟩ | ⟨n56, e⟩
    · refine v_tbl (off := 96) (pt := 123) hc_X3_roomOf dX3_roomOf_27 rfl rfl (by rw [n56]; rfl) rfl ?_
      refine v_aload_n (pc' := 124) hc_X3_roomOf dX3_roomOf_123 rfl rfl 1 rfl ?_
      refine v_iload_n (pc' := 125) hc_X3_roomOf dX3_roomOf_124 rfl rfl 2 rfl ?_
      refine v_iconst (pc' := 126) (v := 4) hc_X3_roomOf dX3_roomOf_125 rfl rfl ?_
      obtain ⟨c52, e⟩ := gd_of e
      obtain ⟨r53, h54, e55, e⟩ := bd2_of e
      refine k_V (pc' := 129) (ci := 2) (n := 2) hc_X3_roomOf ho_X3_roomOf rfl c52 (w_X3_roomRow D l hl x0 x1 (4 : Int32) h12 e55) (wA_l q2435) q2437 (wA_l qs44) q85 q2438 hy_168 ⟨Nat.le_of_ble_eq_true rfl, Nat.le_of_ble_eq_true rfl⟩ rfl rfl (Nat.le_of_ble_eq_true rfl) dX3_roomOf_126 rfl (kS ?_) kN
      obtain ⟨rfl, rfl⟩ := ret_of e
      exact v_iret hc_X3_roomOf rfl dX3_roomOf_129 rfl rfl
    rcases ite_cs e with ⟨n65, e⟩ | ⟨n65, e⟩
    · refine v_tbl (off := 103) (pt := 130) hc_X3_roomOf dX3_roomOf_27 rfl rfl (by rw [n65]; rfl) rfl ?_
      refine v_iload_n (pc' := 131) hc_X3_roomOf dX3_roomOf_130 rfl rfl 0 rfl ?_
      refine v_aload_n (pc' := 132) hc_X3_roomOf dX3_roomOf_131 rfl rfl 1 rfl ?_
      refine v_iload_n (pc' := 133) hc_X3_roomOf dX3_roomOf_132 rfl rfl 2 rfl ?_
      refine v_iconst (pc' := 134) (v := 1) hc_X3_roomOf dX3_roomOf_133 rfl rfl ?_
      obtain ⟨c57, e⟩ := gd_of e
      obtain ⟨r58, h59, e60, e⟩ := bd2_of e
      refine k_V (pc' := 137) (ci := 2) (n := 2) hc_X3_roomOf ho_X3_roomOf rfl c57 (w_X3_roomRow D l hl x0 x1 (1 : Int32) h12 e60) (wA_l q2435) q2437 (wA_l qs44) q85 q2438 hy_168 ⟨Nat.le_of_ble_eq_true rfl, Nat.le_of_ble_eq_true rfl⟩ rfl rfl (Nat.le_of_ble_eq_true rfl) dX3_roomOf_134 rfl (kS ?_) kN
      refine v_icmp_ne (pt := 144) (pf := 140) hc_X3_roomOf dX3_roomOf_137 rfl rfl e (fun _ e => ?_) (fun _ e => ?_)
      · refine v_iconst (pc' := 141) (v := (-1)) hc_X3_roomOf dX3_roomOf_140 rfl rfl ?_
        refine v_goto (pt := 149) hc_X3_roomOf dX3_roomOf_141 rfl ?_
        obtain ⟨rfl, rfl⟩ := ret_of e
        exact v_iret hc_X3_roomOf rfl dX3_roomOf_149 rfl rfl
      · refine v_aload_n (pc' := 145) hc_X3_roomOf dX3_roomOf_144 rfl rfl 1 rfl ?_
        refine v_iload_n (pc' := 146) hc_X3_roomOf dX3_roomOf_145 rfl rfl 2 rfl ?_
        obtain ⟨c61, e⟩ := gd_of e
        obtain ⟨r62, h63, e64, e⟩ := bd2_of e
        refine k_V (pc' := 149) (ci := 2) (n := 1) hc_X3_roomOf ho_X3_roomOf rfl c61 (w_X3_target D l hl x0 x1 h59 e64) (wA_l q2478) q2480 (wA_l qs51) q85 q2481 hy_187 ⟨Nat.le_of_ble_eq_true rfl, Nat.le_of_ble_eq_true rfl⟩ rfl rfl (Nat.le_of_ble_eq_true rfl) dX3_roomOf_146 rfl (kS ?_) kN
        obtain ⟨rfl, rfl⟩ := ret_of e
        exact v_iret hc_X3_roomOf rfl dX3_roomOf_149 rfl rfl
    refine v_tbl (off := 123) (pt := 150) hc_X3_roomOf dX3_roomOf_27 rfl rfl (lk_c (lk_n n18 rfl) (lk_c (lk_n n23 rfl) (lk_c (lk_n n28 rfl) (lk_c (lk_n n37 rfl) (lk_c (lk_n n46 rfl) (lk_c (lk_n n51 rfl) (lk_c (lk_n n56 rfl) (lk_c (lk_n n65 rfl) lk_z)))))))) rfl ?_
    refine v_aload_n (pc' := 151) hc_X3_roomOf dX3_roomOf_150 rfl rfl 1 rfl ?_
    refine v_iconst (pc' := 152) (v := 2) hc_X3_roomOf dX3_roomOf_151 rfl rfl ?_
    obtain ⟨c66, e⟩ := gd_of e
    obtain ⟨r67, h68, e69, e⟩ := bd2_of e
    refine k_V (pc' := 155) (ci := 2) (n := 1) hc_X3_roomOf ho_X3_roomOf rfl c66 (w_X3_fails D l hl x0 (2 : Int32) h12 e69) (wA_l q2351) q2353 (wA_l qs30) q85 q2354 hy_119 ⟨Nat.le_of_ble_eq_true rfl, Nat.le_of_ble_eq_true rfl⟩ rfl rfl (Nat.le_of_ble_eq_true rfl) dX3_roomOf_152 rfl (kS ?_) kN
    obtain ⟨rfl, rfl⟩ := ret_of e
    exact v_iret hc_X3_roomOf rfl dX3_roomOf_155 rfl rfl
theorem w_X3_roomOf (D : va_G) (l : Launch) (hl : l.stackTraces = false) (x0 : Nat) (x1 : Int32) (x2 : Int32) (h : AH) {r : Int32} {hF : AH} (e : f_X3_roomOf x0 x1 x2 h = some (r, hF)) : MetV D l yX3_roomOf (Cond.code yX3_roomOf cX3_roomOf 4 (Option.some .int)) 5 137 [.ref x0, .int x1, .int x2] h hF (oI r) :=
  met_ofF (by decide +kernel) hl (Nat.le_of_ble_eq_true rfl) rfl (v_X3_roomOf D l hl [.ref x0, .int x1, .int x2] h x0 x1 x2 h e)
/-! BlockPapersModel.dropOf(III)I  -/
abbrev G_X3_dropOf (D : va_G) (l : Launch) (as : List Value) (h0 hF : AH) (o : Out) : CT := (D, l, (yX3_dropOf.cls, yX3_dropOf, cX3_dropOf, 5, (Option.some .int), 3, 91, []), as, h0, hF, o)
theorem hc_X3_dropOf {D : va_G} {l : Launch} {as : List Value} {h0 hF : AH} {o : Out} : gC (G_X3_dropOf D l as h0 hF o) = cX3_dropOf := rfl
theorem ho_X3_dropOf {D : va_G} {l : Launch} {as : List Value} {h0 hF : AH} {o : Out} : gO (G_X3_dropOf D l as h0 hF o) = "BlockPapersModel" := rfl
theorem hp_X3_dropOf {D : va_G} {l : Launch} {as : List Value} {h0 hF : AH} {o : Out} (pc : Nat) : ∀ z ∈ tableOf (gHd (G_X3_dropOf D l as h0 hF o)), covers z pc = false := hpN
def f_X3_dropOf (x0 : Nat) (x1 : Int32) (x2 : Int32) (x3 : Int32) (h : AH) : Option (Int32 × AH) :=
  bd (stF h 2 x0 0 (.int (0 : Int32))) fun h1 =>
  gd (isC h1 2 x0) <|
  bd2 (f_X3_isRoom x0 x1 h1) fun r3 h4 =>
  if r3 = 0 then (
    gd (isC h4 2 x0) <|
    bd2 (f_X3_fails x0 (1 : Int32) h4) fun r7 h8 =>
    some (r7, h8)
  ) else (
    gd (isC h4 2 x0) <|
    bd2 (f_X3_roomRow x0 x1 (2 : Int32) h4) fun r11 h12 =>
    bd2 (f_X3_in x2 (0 : Int32) (r11 - (1 : Int32)) h12) fun r14 h15 =>
    if r14 = 0 then (
      gd (isC h15 2 x0) <|
      bd2 (f_X3_fails x0 (2 : Int32) h15) fun r18 h19 =>
      some (r18, h19)
    ) else (
      bd2 (f_X3_dropAt x1 x2 h15) fun r21 h22 =>
      if x3 = 0 then (
        bd (gtR h22 2 x0 1) fun v24 =>
        bd (ldI h22 0 v24 r21) fun v25 =>
        some (v25, h22)
      ) else (
      if x3 = 1 then (
        bd (gtR h22 2 x0 1) fun v27 =>
        bd (ldI h22 0 v27 (r21 + (1 : Int32))) fun v28 =>
        some (v28, h22)
      ) else (
      if x3 = 2 then (
        bd (gtR h22 2 x0 1) fun v30 =>
        bd (ldI h22 0 v30 r21) fun v31 =>
        gd (isC h22 2 x0) <|
        bd2 (f_X3_rollRow x0 v31 (3 : Int32) h22) fun r33 h34 =>
        some (r33, h34)
      ) else (
      if x3 = 3 then (
        bd (gtR h22 2 x0 1) fun v37 =>
        bd (ldI h22 0 v37 (r21 + (2 : Int32))) fun v38 =>
        some (v38, h22)
      ) else (
      gd (isC h22 2 x0) <|
      bd2 (f_X3_fails x0 (3 : Int32) h22) fun r41 h42 =>
      some (r41, h42)
      ))))
    )
  )
theorem v_X3_dropOf (D : va_G) (l : Launch) (hl : l.stackTraces = false) (as : List Value) (h0 : AH) {r : Int32} {hF : AH} (x0 : Nat) (x1 : Int32) (x2 : Int32) (x3 : Int32) (h : AH) (e : f_X3_dropOf x0 x1 x2 x3 h = some (r, hF)) : V (G_X3_dropOf D l as h0 hF (oI r)) h 0 [(0, .ref x0), (1, .int x1), (2, .int x2), (3, .int x3)] [] := by
  unfold f_X3_dropOf at e
  refine v_aload_n (pc' := 1) hc_X3_dropOf dX3_dropOf_0 rfl rfl 0 rfl ?_
  refine v_iconst (pc' := 2) (v := 0) hc_X3_dropOf dX3_dropOf_1 rfl rfl ?_
  refine v_pf (pc' := 5) hc_X3_dropOf ho_X3_dropOf KX3 0 (Nat.le_of_ble_eq_true rfl) q2242 (Or.inl rfl) rfl dX3_dropOf_2 rfl rfl rfl e (fun h1 _ e => ?_)
  refine v_aload_n (pc' := 6) hc_X3_dropOf dX3_dropOf_5 rfl rfl 0 rfl ?_
  refine v_iload_n (pc' := 7) hc_X3_dropOf dX3_dropOf_6 rfl rfl 1 rfl ?_
  obtain ⟨c2, e⟩ := gd_of e
  obtain ⟨r3, h4, e5, e⟩ := bd2_of e
  refine k_V (pc' := 10) (ci := 2) (n := 1) hc_X3_dropOf ho_X3_dropOf rfl c2 (w_X3_isRoom D l hl x0 x1 h1 e5) (wA_l q2470) q2472 (wA_l qs49) q85 q2473 hy_184 ⟨Nat.le_of_ble_eq_true rfl, Nat.le_of_ble_eq_true rfl⟩ rfl rfl (Nat.le_of_ble_eq_true rfl) dX3_dropOf_7 rfl (kS ?_) kN
  refine v_if_ne (pt := 19) (pf := 13) hc_X3_dropOf dX3_dropOf_10 rfl rfl e (fun _ e => ?_) (fun _ e => ?_)
  · refine v_aload_n (pc' := 14) hc_X3_dropOf dX3_dropOf_13 rfl rfl 0 rfl ?_
    refine v_iconst (pc' := 15) (v := 1) hc_X3_dropOf dX3_dropOf_14 rfl rfl ?_
    obtain ⟨c6, e⟩ := gd_of e
    obtain ⟨r7, h8, e9, e⟩ := bd2_of e
    refine k_V (pc' := 18) (ci := 2) (n := 1) hc_X3_dropOf ho_X3_dropOf rfl c6 (w_X3_fails D l hl x0 (1 : Int32) h4 e9) (wA_l q2351) q2353 (wA_l qs30) q85 q2354 hy_119 ⟨Nat.le_of_ble_eq_true rfl, Nat.le_of_ble_eq_true rfl⟩ rfl rfl (Nat.le_of_ble_eq_true rfl) dX3_dropOf_15 rfl (kS ?_) kN
    obtain ⟨rfl, rfl⟩ := ret_of e
    exact v_iret hc_X3_dropOf rfl dX3_dropOf_18 rfl rfl
  · refine v_iload_n (pc' := 20) hc_X3_dropOf dX3_dropOf_19 rfl rfl 2 rfl ?_
    refine v_iconst (pc' := 21) (v := 0) hc_X3_dropOf dX3_dropOf_20 rfl rfl ?_
    refine v_aload_n (pc' := 22) hc_X3_dropOf dX3_dropOf_21 rfl rfl 0 rfl ?_
    refine v_iload_n (pc' := 23) hc_X3_dropOf dX3_dropOf_22 rfl rfl 1 rfl ?_
    refine v_iconst (pc' := 24) (v := 2) hc_X3_dropOf dX3_dropOf_23 rfl rfl ?_
    obtain ⟨c10, e⟩ := gd_of e
    obtain ⟨r11, h12, e13, e⟩ := bd2_of e
    refine k_V (pc' := 27) (ci := 2) (n := 2) hc_X3_dropOf ho_X3_dropOf rfl c10 (w_X3_roomRow D l hl x0 x1 (2 : Int32) h4 e13) (wA_l q2435) q2437 (wA_l qs44) q85 q2438 hy_168 ⟨Nat.le_of_ble_eq_true rfl, Nat.le_of_ble_eq_true rfl⟩ rfl rfl (Nat.le_of_ble_eq_true rfl) dX3_dropOf_24 rfl (kS ?_) kN
    refine v_iconst (pc' := 28) (v := 1) hc_X3_dropOf dX3_dropOf_27 rfl rfl ?_
    refine v_isub (pc' := 29) hc_X3_dropOf dX3_dropOf_28 rfl ?_
    obtain ⟨r14, h15, e16, e⟩ := bd2_of e
    refine k_S (pc' := 32) (n := 3) hc_X3_dropOf ho_X3_dropOf (w_X3_in D l hl x2 (0 : Int32) (r11 - (1 : Int32)) h12 e16) (wA_l q2328) q2329 q85 q2330 hy_118 ⟨Nat.le_of_ble_eq_true rfl, Nat.le_of_ble_eq_true rfl⟩ rfl rfl (Nat.le_of_ble_eq_true rfl) dX3_dropOf_29 rfl (kS ?_) kN
    refine v_if_ne (pt := 41) (pf := 35) hc_X3_dropOf dX3_dropOf_32 rfl rfl e (fun _ e => ?_) (fun _ e => ?_)
    · refine v_aload_n (pc' := 36) hc_X3_dropOf dX3_dropOf_35 rfl rfl 0 rfl ?_
      refine v_iconst (pc' := 37) (v := 2) hc_X3_dropOf dX3_dropOf_36 rfl rfl ?_
      obtain ⟨c17, e⟩ := gd_of e
      obtain ⟨r18, h19, e20, e⟩ := bd2_of e
      refine k_V (pc' := 40) (ci := 2) (n := 1) hc_X3_dropOf ho_X3_dropOf rfl c17 (w_X3_fails D l hl x0 (2 : Int32) h15 e20) (wA_l q2351) q2353 (wA_l qs30) q85 q2354 hy_119 ⟨Nat.le_of_ble_eq_true rfl, Nat.le_of_ble_eq_true rfl⟩ rfl rfl (Nat.le_of_ble_eq_true rfl) dX3_dropOf_37 rfl (kS ?_) kN
      obtain ⟨rfl, rfl⟩ := ret_of e
      exact v_iret hc_X3_dropOf rfl dX3_dropOf_40 rfl rfl
    · refine v_iload_n (pc' := 42) hc_X3_dropOf dX3_dropOf_41 rfl rfl 1 rfl ?_
      refine v_iload_n (pc' := 43) hc_X3_dropOf dX3_dropOf_42 rfl rfl 2 rfl ?_
      obtain ⟨r21, h22, e23, e⟩ := bd2_of e
      refine k_S (pc' := 46) (n := 2) hc_X3_dropOf ho_X3_dropOf (w_X3_dropAt D l hl x1 x2 h15 e23) (wA_l q2439) q2440 q85 q2441 hy_169 ⟨Nat.le_of_ble_eq_true rfl, Nat.le_of_ble_eq_true rfl⟩ rfl rfl (Nat.le_of_ble_eq_true rfl) dX3_dropOf_43 rfl (kS ?_) kN
      refine v_istore (pc' := 48) (lv' := [(4, .int r21), (0, .ref x0), (1, .int x1), (2, .int x2), (3, .int x3)]) hc_X3_dropOf dX3_dropOf_46 rfl (Nat.le_of_ble_eq_true rfl) rfl ?_
      refine v_iload_n (pc' := 49) hc_X3_dropOf dX3_dropOf_48 rfl rfl 4 rfl ?_
      rcases ite_cs e with ⟨n26, e⟩ | ⟨n26, e⟩
      · refine v_tbl (off := 31) (pt := 80) hc_X3_dropOf dX3_dropOf_49 rfl rfl (by rw [n26]; rfl) rfl ?_
        refine v_aload_n (pc' := 81) hc_X3_dropOf dX3_dropOf_80 rfl rfl 1 rfl ?_
        refine v_gfR (pc' := 84) hc_X3_dropOf ho_X3_dropOf KX3 1 (Nat.le_of_ble_eq_true rfl) q2243 (Or.inl rfl) dX3_dropOf_81 rfl e (fun v24 _ e => ?_)
        refine v_iload (pc' := 86) hc_X3_dropOf dX3_dropOf_84 rfl 0 rfl ?_
        refine v_iald (pc' := 87) hc_X3_dropOf dX3_dropOf_86 rfl e (fun v25 _ e => ?_)
        obtain ⟨rfl, rfl⟩ := ret_of e
        exact v_iret hc_X3_dropOf rfl dX3_dropOf_87 rfl rfl
      rcases ite_cs e with ⟨n29, e⟩ | ⟨n29, e⟩
      · refine v_tbl (off := 39) (pt := 88) hc_X3_dropOf dX3_dropOf_49 rfl rfl (by rw [n29]; rfl) rfl ?_
        refine v_aload_n (pc' := 89) hc_X3_dropOf dX3_dropOf_88 rfl rfl 1 rfl ?_
        refine v_gfR (pc' := 92) hc_X3_dropOf ho_X3_dropOf KX3 1 (Nat.le_of_ble_eq_true rfl) q2243 (Or.inl rfl) dX3_dropOf_89 rfl e (fun v27 _ e => ?_)
        refine v_iload (pc' := 94) hc_X3_dropOf dX3_dropOf_92 rfl 0 rfl ?_
        refine v_iconst (pc' := 95) (v := 1) hc_X3_dropOf dX3_dropOf_94 rfl rfl ?_
        refine v_iadd (pc' := 96) hc_X3_dropOf dX3_dropOf_95 rfl ?_
        refine v_iald (pc' := 97) hc_X3_dropOf dX3_dropOf_96 rfl e (fun v28 _ e => ?_)
        obtain ⟨rfl, rfl⟩ := ret_of e
        exact v_iret hc_X3_dropOf rfl dX3_dropOf_97 rfl rfl
      rcases ite_cs e with ⟨n36, e⟩ | ⟨n36, e⟩
      · refine v_tbl (off := 49) (pt := 98) hc_X3_dropOf dX3_dropOf_49 rfl rfl (by rw [n36]; rfl) rfl ?_
        refine v_aload_n (pc' := 99) hc_X3_dropOf dX3_dropOf_98 rfl rfl 1 rfl ?_
        refine v_aload_n (pc' := 100) hc_X3_dropOf dX3_dropOf_99 rfl rfl 1 rfl ?_
        refine v_gfR (pc' := 103) hc_X3_dropOf ho_X3_dropOf KX3 1 (Nat.le_of_ble_eq_true rfl) q2243 (Or.inl rfl) dX3_dropOf_100 rfl e (fun v30 _ e => ?_)
        refine v_iload (pc' := 105) hc_X3_dropOf dX3_dropOf_103 rfl 0 rfl ?_
        refine v_iald (pc' := 106) hc_X3_dropOf dX3_dropOf_105 rfl e (fun v31 _ e => ?_)
        refine v_iconst (pc' := 107) (v := 3) hc_X3_dropOf dX3_dropOf_106 rfl rfl ?_
        obtain ⟨c32, e⟩ := gd_of e
        obtain ⟨r33, h34, e35, e⟩ := bd2_of e
        refine k_V (pc' := 110) (ci := 2) (n := 2) hc_X3_dropOf ho_X3_dropOf rfl c32 (w_X3_rollRow D l hl x0 v31 (3 : Int32) h22 e35) (wA_l q2419) q2421 (wA_l qs40) q85 q2422 hy_165 ⟨Nat.le_of_ble_eq_true rfl, Nat.le_of_ble_eq_true rfl⟩ rfl rfl (Nat.le_of_ble_eq_true rfl) dX3_dropOf_107 rfl (kS ?_) kN
        obtain ⟨rfl, rfl⟩ := ret_of e
        exact v_iret hc_X3_dropOf rfl dX3_dropOf_110 rfl rfl
      rcases ite_cs e with ⟨n39, e⟩ | ⟨n39, e⟩
      · refine v_tbl (off := 62) (pt := 111) hc_X3_dropOf dX3_dropOf_49 rfl rfl (by rw [n39]; rfl) rfl ?_
        refine v_aload_n (pc' := 112) hc_X3_dropOf dX3_dropOf_111 rfl rfl 1 rfl ?_
        refine v_gfR (pc' := 115) hc_X3_dropOf ho_X3_dropOf KX3 1 (Nat.le_of_ble_eq_true rfl) q2243 (Or.inl rfl) dX3_dropOf_112 rfl e (fun v37 _ e => ?_)
        refine v_iload (pc' := 117) hc_X3_dropOf dX3_dropOf_115 rfl 0 rfl ?_
        refine v_iconst (pc' := 118) (v := 2) hc_X3_dropOf dX3_dropOf_117 rfl rfl ?_
        refine v_iadd (pc' := 119) hc_X3_dropOf dX3_dropOf_118 rfl ?_
        refine v_iald (pc' := 120) hc_X3_dropOf dX3_dropOf_119 rfl e (fun v38 _ e => ?_)
        obtain ⟨rfl, rfl⟩ := ret_of e
        exact v_iret hc_X3_dropOf rfl dX3_dropOf_120 rfl rfl
      refine v_tbl (off := 72) (pt := 121) hc_X3_dropOf dX3_dropOf_49 rfl rfl (lk_c (lk_n n26 rfl) (lk_c (lk_n n29 rfl) (lk_c (lk_n n36 rfl) (lk_c (lk_n n39 rfl) lk_z)))) rfl ?_
      refine v_aload_n (pc' := 122) hc_X3_dropOf dX3_dropOf_121 rfl rfl 1 rfl ?_
      refine v_iconst (pc' := 123) (v := 3) hc_X3_dropOf dX3_dropOf_122 rfl rfl ?_
      obtain ⟨c40, e⟩ := gd_of e
      obtain ⟨r41, h42, e43, e⟩ := bd2_of e
      refine k_V (pc' := 126) (ci := 2) (n := 1) hc_X3_dropOf ho_X3_dropOf rfl c40 (w_X3_fails D l hl x0 (3 : Int32) h22 e43) (wA_l q2351) q2353 (wA_l qs30) q85 q2354 hy_119 ⟨Nat.le_of_ble_eq_true rfl, Nat.le_of_ble_eq_true rfl⟩ rfl rfl (Nat.le_of_ble_eq_true rfl) dX3_dropOf_123 rfl (kS ?_) kN
      obtain ⟨rfl, rfl⟩ := ret_of e
      exact v_iret hc_X3_dropOf rfl dX3_dropOf_126 rfl rfl
theorem w_X3_dropOf (D : va_G) (l : Launch) (hl : l.stackTraces = false) (x0 : Nat) (x1 : Int32) (x2 : Int32) (x3 : Int32) (h : AH) {r : Int32} {hF : AH} (e : f_X3_dropOf x0 x1 x2 x3 h = some (r, hF)) : MetV D l yX3_dropOf (Cond.code yX3_dropOf cX3_dropOf 5 (Option.some .int)) 3 91 [.ref x0, .int x1, .int x2, .int x3] h hF (oI r) :=
  met_ofF (by decide +kernel) hl (Nat.le_of_ble_eq_true rfl) rfl (v_X3_dropOf D l hl [.ref x0, .int x1, .int x2, .int x3] h x0 x1 x2 x3 h e)
/-! BlockPapersModel.wasteFor(II)I  -/
abbrev G_X3_wasteFor (D : va_G) (l : Launch) (as : List Value) (h0 hF : AH) (o : Out) : CT := (D, l, (yX3_wasteFor.cls, yX3_wasteFor, cX3_wasteFor, 6, (Option.some .int), 5, 137, []), as, h0, hF, o)
theorem hc_X3_wasteFor {D : va_G} {l : Launch} {as : List Value} {h0 hF : AH} {o : Out} : gC (G_X3_wasteFor D l as h0 hF o) = cX3_wasteFor := rfl
theorem ho_X3_wasteFor {D : va_G} {l : Launch} {as : List Value} {h0 hF : AH} {o : Out} : gO (G_X3_wasteFor D l as h0 hF o) = "BlockPapersModel" := rfl
theorem hp_X3_wasteFor {D : va_G} {l : Launch} {as : List Value} {h0 hF : AH} {o : Out} (pc : Nat) : ∀ z ∈ tableOf (gHd (G_X3_wasteFor D l as h0 hF o)), covers z pc = false := hpN
def f_X3_wasteFor (x0 : Nat) (x1 : Int32) (x2 : Int32) (h : AH) : Option (Int32 × AH) :=
  gd (isC h 2 x0) <|
  bd2 (f_X3_rollRow x0 x2 (0 : Int32) h) fun r2 h3 =>
  gd (isC h3 2 x0) <|
  bd2 (f_X3_blockRow x0 r2 (0 : Int32) h3) fun r6 h7 =>
  gd (isC h7 2 x0) <|
  bd2 (f_X3_rollRow x0 x2 (4 : Int32) h7) fun r10 h11 =>
  gd (decide (¬ r6 = 0)) <|
  gd (isC h11 2 x0) <|
  bd2 (f_X3_target x0 x1 h11) fun r15 h16 =>
  if r15 = (-1 : Int32) then (
    some ((0 : Int32), h16)
  ) else (
    gd (decide (¬ r6 = 0)) <|
    some ((((r15 - (r10 - r10 / r6 * r6)) + r6) - ((r15 - (r10 - r10 / r6 * r6)) + r6) / r6 * r6), h16)
  )
theorem v_X3_wasteFor (D : va_G) (l : Launch) (hl : l.stackTraces = false) (as : List Value) (h0 : AH) {r : Int32} {hF : AH} (x0 : Nat) (x1 : Int32) (x2 : Int32) (h : AH) (e : f_X3_wasteFor x0 x1 x2 h = some (r, hF)) : V (G_X3_wasteFor D l as h0 hF (oI r)) h 0 [(0, .ref x0), (1, .int x1), (2, .int x2)] [] := by
  unfold f_X3_wasteFor at e
  refine v_aload_n (pc' := 1) hc_X3_wasteFor dX3_wasteFor_0 rfl rfl 0 rfl ?_
  refine v_aload_n (pc' := 2) hc_X3_wasteFor dX3_wasteFor_1 rfl rfl 0 rfl ?_
  refine v_iload_n (pc' := 3) hc_X3_wasteFor dX3_wasteFor_2 rfl rfl 2 rfl ?_
  refine v_iconst (pc' := 4) (v := 0) hc_X3_wasteFor dX3_wasteFor_3 rfl rfl ?_
  obtain ⟨c1, e⟩ := gd_of e
  obtain ⟨r2, h3, e4, e⟩ := bd2_of e
  refine k_V (pc' := 7) (ci := 2) (n := 2) hc_X3_wasteFor ho_X3_wasteFor rfl c1 (w_X3_rollRow D l hl x0 x2 (0 : Int32) h e4) (wA_l q2419) q2421 (wA_l qs40) q85 q2422 hy_165 ⟨Nat.le_of_ble_eq_true rfl, Nat.le_of_ble_eq_true rfl⟩ rfl rfl (Nat.le_of_ble_eq_true rfl) dX3_wasteFor_4 rfl (kS ?_) kN
  refine v_iconst (pc' := 8) (v := 0) hc_X3_wasteFor dX3_wasteFor_7 rfl rfl ?_
  obtain ⟨c5, e⟩ := gd_of e
  obtain ⟨r6, h7, e8, e⟩ := bd2_of e
  refine k_V (pc' := 11) (ci := 2) (n := 2) hc_X3_wasteFor ho_X3_wasteFor rfl c5 (w_X3_blockRow D l hl x0 r2 (0 : Int32) h3 e8) (wA_l q2363) q2365 (wA_l qs32) q85 q2366 hy_131 ⟨Nat.le_of_ble_eq_true rfl, Nat.le_of_ble_eq_true rfl⟩ rfl rfl (Nat.le_of_ble_eq_true rfl) dX3_wasteFor_8 rfl (kS ?_) kN
  refine v_istore_n (pc' := 12) (lv' := [(3, .int r6), (0, .ref x0), (1, .int x1), (2, .int x2)]) hc_X3_wasteFor dX3_wasteFor_11 rfl rfl (Nat.le_of_ble_eq_true rfl) rfl ?_
  refine v_aload_n (pc' := 13) hc_X3_wasteFor dX3_wasteFor_12 rfl rfl 1 rfl ?_
  refine v_iload_n (pc' := 14) hc_X3_wasteFor dX3_wasteFor_13 rfl rfl 3 rfl ?_
  refine v_iconst (pc' := 15) (v := 4) hc_X3_wasteFor dX3_wasteFor_14 rfl rfl ?_
  obtain ⟨c9, e⟩ := gd_of e
  obtain ⟨r10, h11, e12, e⟩ := bd2_of e
  refine k_V (pc' := 18) (ci := 2) (n := 2) hc_X3_wasteFor ho_X3_wasteFor rfl c9 (w_X3_rollRow D l hl x0 x2 (4 : Int32) h7 e12) (wA_l q2419) q2421 (wA_l qs40) q85 q2422 hy_165 ⟨Nat.le_of_ble_eq_true rfl, Nat.le_of_ble_eq_true rfl⟩ rfl rfl (Nat.le_of_ble_eq_true rfl) dX3_wasteFor_15 rfl (kS ?_) kN
  refine v_iload_n (pc' := 19) hc_X3_wasteFor dX3_wasteFor_18 rfl rfl 0 rfl ?_
  obtain ⟨c13, e⟩ := gd_of e
  refine v_irem (pc' := 20) hc_X3_wasteFor dX3_wasteFor_19 rfl (of_decide_eq_true c13) ?_
  refine v_istore (pc' := 22) (lv' := [(4, .int (r10 - r10 / r6 * r6)), (3, .int r6), (0, .ref x0), (1, .int x1), (2, .int x2)]) hc_X3_wasteFor dX3_wasteFor_20 rfl (Nat.le_of_ble_eq_true rfl) rfl ?_
  refine v_aload_n (pc' := 23) hc_X3_wasteFor dX3_wasteFor_22 rfl rfl 2 rfl ?_
  refine v_iload_n (pc' := 24) hc_X3_wasteFor dX3_wasteFor_23 rfl rfl 3 rfl ?_
  obtain ⟨c14, e⟩ := gd_of e
  obtain ⟨r15, h16, e17, e⟩ := bd2_of e
  refine k_V (pc' := 27) (ci := 2) (n := 1) hc_X3_wasteFor ho_X3_wasteFor rfl c14 (w_X3_target D l hl x0 x1 h11 e17) (wA_l q2478) q2480 (wA_l qs51) q85 q2481 hy_187 ⟨Nat.le_of_ble_eq_true rfl, Nat.le_of_ble_eq_true rfl⟩ rfl rfl (Nat.le_of_ble_eq_true rfl) dX3_wasteFor_24 rfl (kS ?_) kN
  refine v_istore (pc' := 29) (lv' := [(5, .int r15), (4, .int (r10 - r10 / r6 * r6)), (3, .int r6), (0, .ref x0), (1, .int x1), (2, .int x2)]) hc_X3_wasteFor dX3_wasteFor_27 rfl (Nat.le_of_ble_eq_true rfl) rfl ?_
  refine v_iload (pc' := 31) hc_X3_wasteFor dX3_wasteFor_29 rfl 0 rfl ?_
  refine v_iconst (pc' := 32) (v := (-1)) hc_X3_wasteFor dX3_wasteFor_31 rfl rfl ?_
  refine v_icmp_ne (pt := 39) (pf := 35) hc_X3_wasteFor dX3_wasteFor_32 rfl rfl e (fun _ e => ?_) (fun _ e => ?_)
  · refine v_iconst (pc' := 36) (v := 0) hc_X3_wasteFor dX3_wasteFor_35 rfl rfl ?_
    refine v_goto (pt := 48) hc_X3_wasteFor dX3_wasteFor_36 rfl ?_
    obtain ⟨rfl, rfl⟩ := ret_of e
    exact v_iret hc_X3_wasteFor rfl dX3_wasteFor_48 rfl rfl
  · refine v_iload (pc' := 41) hc_X3_wasteFor dX3_wasteFor_39 rfl 0 rfl ?_
    refine v_iload (pc' := 43) hc_X3_wasteFor dX3_wasteFor_41 rfl 1 rfl ?_
    refine v_isub (pc' := 44) hc_X3_wasteFor dX3_wasteFor_43 rfl ?_
    refine v_iload_n (pc' := 45) hc_X3_wasteFor dX3_wasteFor_44 rfl rfl 2 rfl ?_
    refine v_iadd (pc' := 46) hc_X3_wasteFor dX3_wasteFor_45 rfl ?_
    refine v_iload_n (pc' := 47) hc_X3_wasteFor dX3_wasteFor_46 rfl rfl 2 rfl ?_
    obtain ⟨c18, e⟩ := gd_of e
    refine v_irem (pc' := 48) hc_X3_wasteFor dX3_wasteFor_47 rfl (of_decide_eq_true c18) ?_
    obtain ⟨rfl, rfl⟩ := ret_of e
    exact v_iret hc_X3_wasteFor rfl dX3_wasteFor_48 rfl rfl
theorem w_X3_wasteFor (D : va_G) (l : Launch) (hl : l.stackTraces = false) (x0 : Nat) (x1 : Int32) (x2 : Int32) (h : AH) {r : Int32} {hF : AH} (e : f_X3_wasteFor x0 x1 x2 h = some (r, hF)) : MetV D l yX3_wasteFor (Cond.code yX3_wasteFor cX3_wasteFor 6 (Option.some .int)) 5 137 [.ref x0, .int x1, .int x2] h hF (oI r) :=
  met_ofF (by decide +kernel) hl (Nat.le_of_ble_eq_true rfl) rfl (v_X3_wasteFor D l hl [.ref x0, .int x1, .int x2] h x0 x1 x2 h e)
/-! BlockPapersModel.reasonFor(II)I  -/
abbrev G_X3_reasonFor (D : va_G) (l : Launch) (as : List Value) (h0 hF : AH) (o : Out) : CT := (D, l, (yX3_reasonFor.cls, yX3_reasonFor, cX3_reasonFor, 6, (Option.some .int), 6, 162, []), as, h0, hF, o)
theorem hc_X3_reasonFor {D : va_G} {l : Launch} {as : List Value} {h0 hF : AH} {o : Out} : gC (G_X3_reasonFor D l as h0 hF o) = cX3_reasonFor := rfl
theorem ho_X3_reasonFor {D : va_G} {l : Launch} {as : List Value} {h0 hF : AH} {o : Out} : gO (G_X3_reasonFor D l as h0 hF o) = "BlockPapersModel" := rfl
theorem hp_X3_reasonFor {D : va_G} {l : Launch} {as : List Value} {h0 hF : AH} {o : Out} (pc : Nat) : ∀ z ∈ tableOf (gHd (G_X3_reasonFor D l as h0 hF o)), covers z pc = false := hpN
def f_X3_reasonFor_j168 (x0 : Nat) (x1 : Int32) (x2 : Int32) (h : AH) : Option (Int32 × AH) :=
  gd (isC h 2 x0) <|
  bd2 (f_X3_wasteFor x0 x1 x2 h) fun r2 h3 =>
  gd (isC h3 2 x0) <|
  bd2 (f_X3_roomRow x0 x1 (0 : Int32) h3) fun r6 h7 =>
  gd (isC h7 2 x0) <|
  bd2 (f_X3_leftOf x0 x2 h7) fun r10 h11 =>
  if ((r2 + r6) - r10) ≤ 0 then (
    some ((0 : Int32), h11)
  ) else (
    gd (isC h11 2 x0) <|
    bd2 (f_X3_refused x0 (9 : Int32) ((r2 + r6) - r10) h11) fun r14 h15 =>
    some (r14, h15)
  )
theorem w_X3_reasonFor_j168 (D : va_G) (l : Launch) (hl : l.stackTraces = false) (as : List Value) (h0 : AH) {r : Int32} {hF : AH} (x0 : Nat) (x1 : Int32) (x2 : Int32) (h : AH) (e : f_X3_reasonFor_j168 x0 x1 x2 h = some (r, hF)) : V (G_X3_reasonFor D l as h0 hF (oI r)) h 168 [(0, .ref x0), (1, .int x1), (2, .int x2)] [] := by
  unfold f_X3_reasonFor_j168 at e
  refine v_aload_n (pc' := 169) hc_X3_reasonFor dX3_reasonFor_168 rfl rfl 0 rfl ?_
  refine v_iload_n (pc' := 170) hc_X3_reasonFor dX3_reasonFor_169 rfl rfl 1 rfl ?_
  refine v_iload_n (pc' := 171) hc_X3_reasonFor dX3_reasonFor_170 rfl rfl 2 rfl ?_
  obtain ⟨c1, e⟩ := gd_of e
  obtain ⟨r2, h3, e4, e⟩ := bd2_of e
  refine k_V (pc' := 174) (ci := 2) (n := 2) hc_X3_reasonFor ho_X3_reasonFor rfl c1 (w_X3_wasteFor D l hl x0 x1 x2 h e4) (wA_l q2502) q2504 (wA_l qs55) q85 q2505 hy_194 ⟨Nat.le_of_ble_eq_true rfl, Nat.le_of_ble_eq_true rfl⟩ rfl rfl (Nat.le_of_ble_eq_true rfl) dX3_reasonFor_171 rfl (kS ?_) kN
  refine v_aload_n (pc' := 175) hc_X3_reasonFor dX3_reasonFor_174 rfl rfl 0 rfl ?_
  refine v_iload_n (pc' := 176) hc_X3_reasonFor dX3_reasonFor_175 rfl rfl 1 rfl ?_
  refine v_iconst (pc' := 177) (v := 0) hc_X3_reasonFor dX3_reasonFor_176 rfl rfl ?_
  obtain ⟨c5, e⟩ := gd_of e
  obtain ⟨r6, h7, e8, e⟩ := bd2_of e
  refine k_V (pc' := 180) (ci := 2) (n := 2) hc_X3_reasonFor ho_X3_reasonFor rfl c5 (w_X3_roomRow D l hl x0 x1 (0 : Int32) h3 e8) (wA_l q2435) q2437 (wA_l qs44) q85 q2438 hy_168 ⟨Nat.le_of_ble_eq_true rfl, Nat.le_of_ble_eq_true rfl⟩ rfl rfl (Nat.le_of_ble_eq_true rfl) dX3_reasonFor_177 rfl (kS ?_) kN
  refine v_iadd (pc' := 181) hc_X3_reasonFor dX3_reasonFor_180 rfl ?_
  refine v_aload_n (pc' := 182) hc_X3_reasonFor dX3_reasonFor_181 rfl rfl 0 rfl ?_
  refine v_iload_n (pc' := 183) hc_X3_reasonFor dX3_reasonFor_182 rfl rfl 2 rfl ?_
  obtain ⟨c9, e⟩ := gd_of e
  obtain ⟨r10, h11, e12, e⟩ := bd2_of e
  refine k_V (pc' := 186) (ci := 2) (n := 1) hc_X3_reasonFor ho_X3_reasonFor rfl c9 (w_X3_leftOf D l hl x0 x2 h7 e12) (wA_l q2427) q2429 (wA_l qs42) q85 q2430 hy_167 ⟨Nat.le_of_ble_eq_true rfl, Nat.le_of_ble_eq_true rfl⟩ rfl rfl (Nat.le_of_ble_eq_true rfl) dX3_reasonFor_183 rfl (kS ?_) kN
  refine v_isub (pc' := 187) hc_X3_reasonFor dX3_reasonFor_186 rfl ?_
  refine v_istore (pc' := 189) (lv' := [(4, .int ((r2 + r6) - r10)), (0, .ref x0), (1, .int x1), (2, .int x2)]) hc_X3_reasonFor dX3_reasonFor_187 rfl (Nat.le_of_ble_eq_true rfl) rfl ?_
  refine v_iload (pc' := 191) hc_X3_reasonFor dX3_reasonFor_189 rfl 0 rfl ?_
  refine v_if_le (pt := 205) (pf := 194) hc_X3_reasonFor dX3_reasonFor_191 rfl rfl e (fun _ e => ?_) (fun _ e => ?_)
  · refine v_iconst (pc' := 206) (v := 0) hc_X3_reasonFor dX3_reasonFor_205 rfl rfl ?_
    obtain ⟨rfl, rfl⟩ := ret_of e
    exact v_iret hc_X3_reasonFor rfl dX3_reasonFor_206 rfl rfl
  · refine v_aload_n (pc' := 195) hc_X3_reasonFor dX3_reasonFor_194 rfl rfl 1 rfl ?_
    refine v_bipush (pc' := 197) (v := 9) hc_X3_reasonFor dX3_reasonFor_195 rfl rfl ?_
    refine v_iload (pc' := 199) hc_X3_reasonFor dX3_reasonFor_197 rfl 0 rfl ?_
    obtain ⟨c13, e⟩ := gd_of e
    obtain ⟨r14, h15, e16, e⟩ := bd2_of e
    refine k_V (pc' := 202) (ci := 2) (n := 2) hc_X3_reasonFor ho_X3_reasonFor rfl c13 (w_X3_refused D l hl x0 (9 : Int32) ((r2 + r6) - r10) h11 e16) (wA_l q2335) q2337 (wA_l qs26) q85 q2338 hy_120 ⟨Nat.le_of_ble_eq_true rfl, Nat.le_of_ble_eq_true rfl⟩ rfl rfl (Nat.le_of_ble_eq_true rfl) dX3_reasonFor_199 rfl (kS ?_) kN
    refine v_goto (pt := 206) hc_X3_reasonFor dX3_reasonFor_202 rfl ?_
    obtain ⟨rfl, rfl⟩ := ret_of e
    exact v_iret hc_X3_reasonFor rfl dX3_reasonFor_206 rfl rfl
def f_X3_reasonFor (x0 : Nat) (x1 : Int32) (x2 : Int32) (h : AH) : Option (Int32 × AH) :=
  gd (isC h 2 x0) <|
  bd2 (f_X3_roomRow x0 x1 (2 : Int32) h) fun r2 h3 =>
  gd (isC h3 2 x0) <|
  bd2 (f_X3_roomRow x0 x1 (1 : Int32) h3) fun r6 h7 =>
  if r2 = r6 then (
    gd (isC h7 2 x0) <|
    bd2 (f_X3_refused x0 (4 : Int32) r2 h7) fun r10 h11 =>
    some (r10, h11)
  ) else (
    gd (isC h7 2 x0) <|
    bd2 (f_X3_rollRow x0 x2 (5 : Int32) h7) fun r14 h15 =>
    if r14 = (1 : Int32) then (
      gd (isC h15 2 x0) <|
      bd2 (f_X3_refused x0 (5 : Int32) x2 h15) fun r18 h19 =>
      some (r18, h19)
    ) else (
      if r2 ≤ 0 then (
        f_X3_reasonFor_j168 x0 x1 x2 h15
      ) else (
        gd (isC h15 2 x0) <|
        bd2 (f_X3_firstRoll x0 x1 h15) fun r22 h23 =>
        gd (isC h23 2 x0) <|
        bd2 (f_X3_rollRow x0 r22 (0 : Int32) h23) fun r26 h27 =>
        gd (isC h27 2 x0) <|
        bd2 (f_X3_rollRow x0 x2 (0 : Int32) h27) fun r30 h31 =>
        if r26 = r30 then (
          gd (isC h31 2 x0) <|
          bd2 (f_X3_colourOf x0 r22 h31) fun r34 h35 =>
          gd (isC h35 2 x0) <|
          bd2 (f_X3_colourOf x0 x2 h35) fun r38 h39 =>
          if r34 = r38 then (
            bd (gtR h39 2 x0 1) fun v41 =>
            bd2 (f_X3_dropAt x1 (r2 - (1 : Int32)) h39) fun r42 h43 =>
            bd (ldI h43 0 v41 r42) fun v45 =>
            gd (isC h43 2 x0) <|
            bd2 (f_X3_rollRow x0 v45 (3 : Int32) h43) fun r47 h48 =>
            gd (isC h48 2 x0) <|
            bd2 (f_X3_rollRow x0 x2 (3 : Int32) h48) fun r51 h52 =>
            gd (isC h52 2 x0) <|
            bd2 (f_X3_apart x0 r47 r51 h52) fun r55 h56 =>
            if r55 ≤ (1 : Int32) then (
              f_X3_reasonFor_j168 x0 x1 x2 h56
            ) else (
              gd (isC h56 2 x0) <|
              bd2 (f_X3_rollRow x0 v45 (3 : Int32) h56) fun r59 h60 =>
              gd (isC h60 2 x0) <|
              bd2 (f_X3_rollRow x0 x2 (3 : Int32) h60) fun r63 h64 =>
              gd (isC h64 2 x0) <|
              bd2 (f_X3_apart x0 r59 r63 h64) fun r67 h68 =>
              gd (isC h68 2 x0) <|
              bd2 (f_X3_refused x0 (8 : Int32) r67 h68) fun r71 h72 =>
              some (r71, h72)
            )
          ) else (
            gd (isC h39 2 x0) <|
            bd2 (f_X3_colourOf x0 r22 h39) fun r75 h76 =>
            gd (isC h76 2 x0) <|
            bd2 (f_X3_refused x0 (7 : Int32) r75 h76) fun r79 h80 =>
            some (r79, h80)
          )
        ) else (
          gd (isC h31 2 x0) <|
          bd2 (f_X3_rollRow x0 r22 (0 : Int32) h31) fun r83 h84 =>
          gd (isC h84 2 x0) <|
          bd2 (f_X3_refused x0 (6 : Int32) r83 h84) fun r87 h88 =>
          some (r87, h88)
        )
      )
    )
  )
theorem v_X3_reasonFor (D : va_G) (l : Launch) (hl : l.stackTraces = false) (as : List Value) (h0 : AH) {r : Int32} {hF : AH} (x0 : Nat) (x1 : Int32) (x2 : Int32) (h : AH) (e : f_X3_reasonFor x0 x1 x2 h = some (r, hF)) : V (G_X3_reasonFor D l as h0 hF (oI r)) h 0 [(0, .ref x0), (1, .int x1), (2, .int x2)] [] := by
  unfold f_X3_reasonFor at e
  refine v_aload_n (pc' := 1) hc_X3_reasonFor dX3_reasonFor_0 rfl rfl 0 rfl ?_
  refine v_iload_n (pc' := 2) hc_X3_reasonFor dX3_reasonFor_1 rfl rfl 1 rfl ?_
  refine v_iconst (pc' := 3) (v := 2) hc_X3_reasonFor dX3_reasonFor_2 rfl rfl ?_
  obtain ⟨c1, e⟩ := gd_of e
  obtain ⟨r2, h3, e4, e⟩ := bd2_of e
  refine k_V (pc' := 6) (ci := 2) (n := 2) hc_X3_reasonFor ho_X3_reasonFor rfl c1 (w_X3_roomRow D l hl x0 x1 (2 : Int32) h e4) (wA_l q2435) q2437 (wA_l qs44) q85 q2438 hy_168 ⟨Nat.le_of_ble_eq_true rfl, Nat.le_of_ble_eq_true rfl⟩ rfl rfl (Nat.le_of_ble_eq_true rfl) dX3_reasonFor_3 rfl (kS ?_) kN
  refine v_istore_n (pc' := 7) (lv' := [(3, .int r2), (0, .ref x0), (1, .int x1), (2, .int x2)]) hc_X3_reasonFor dX3_reasonFor_6 rfl rfl (Nat.le_of_ble_eq_true rfl) rfl ?_
  refine v_iload_n (pc' := 8) hc_X3_reasonFor dX3_reasonFor_7 rfl rfl 0 rfl ?_
  refine v_aload_n (pc' := 9) hc_X3_reasonFor dX3_reasonFor_8 rfl rfl 1 rfl ?_
  refine v_iload_n (pc' := 10) hc_X3_reasonFor dX3_reasonFor_9 rfl rfl 2 rfl ?_
  refine v_iconst (pc' := 11) (v := 1) hc_X3_reasonFor dX3_reasonFor_10 rfl rfl ?_
  obtain ⟨c5, e⟩ := gd_of e
  obtain ⟨r6, h7, e8, e⟩ := bd2_of e
  refine k_V (pc' := 14) (ci := 2) (n := 2) hc_X3_reasonFor ho_X3_reasonFor rfl c5 (w_X3_roomRow D l hl x0 x1 (1 : Int32) h3 e8) (wA_l q2435) q2437 (wA_l qs44) q85 q2438 hy_168 ⟨Nat.le_of_ble_eq_true rfl, Nat.le_of_ble_eq_true rfl⟩ rfl rfl (Nat.le_of_ble_eq_true rfl) dX3_reasonFor_11 rfl (kS ?_) kN
  refine v_icmp_ne (pt := 24) (pf := 17) hc_X3_reasonFor dX3_reasonFor_14 rfl rfl e (fun _ e => ?_) (fun _ e => ?_)
  · refine v_aload_n (pc' := 18) hc_X3_reasonFor dX3_reasonFor_17 rfl rfl 1 rfl ?_
    refine v_iconst (pc' := 19) (v := 4) hc_X3_reasonFor dX3_reasonFor_18 rfl rfl ?_
    refine v_iload_n (pc' := 20) hc_X3_reasonFor dX3_reasonFor_19 rfl rfl 0 rfl ?_
    obtain ⟨c9, e⟩ := gd_of e
    obtain ⟨r10, h11, e12, e⟩ := bd2_of e
    refine k_V (pc' := 23) (ci := 2) (n := 2) hc_X3_reasonFor ho_X3_reasonFor rfl c9 (w_X3_refused D l hl x0 (4 : Int32) r2 h7 e12) (wA_l q2335) q2337 (wA_l qs26) q85 q2338 hy_120 ⟨Nat.le_of_ble_eq_true rfl, Nat.le_of_ble_eq_true rfl⟩ rfl rfl (Nat.le_of_ble_eq_true rfl) dX3_reasonFor_20 rfl (kS ?_) kN
    obtain ⟨rfl, rfl⟩ := ret_of e
    exact v_iret hc_X3_reasonFor rfl dX3_reasonFor_23 rfl rfl
  · refine v_aload_n (pc' := 25) hc_X3_reasonFor dX3_reasonFor_24 rfl rfl 1 rfl ?_
    refine v_iload_n (pc' := 26) hc_X3_reasonFor dX3_reasonFor_25 rfl rfl 3 rfl ?_
    refine v_iconst (pc' := 27) (v := 5) hc_X3_reasonFor dX3_reasonFor_26 rfl rfl ?_
    obtain ⟨c13, e⟩ := gd_of e
    obtain ⟨r14, h15, e16, e⟩ := bd2_of e
    refine k_V (pc' := 30) (ci := 2) (n := 2) hc_X3_reasonFor ho_X3_reasonFor rfl c13 (w_X3_rollRow D l hl x0 x2 (5 : Int32) h7 e16) (wA_l q2419) q2421 (wA_l qs40) q85 q2422 hy_165 ⟨Nat.le_of_ble_eq_true rfl, Nat.le_of_ble_eq_true rfl⟩ rfl rfl (Nat.le_of_ble_eq_true rfl) dX3_reasonFor_27 rfl (kS ?_) kN
    refine v_iconst (pc' := 31) (v := 1) hc_X3_reasonFor dX3_reasonFor_30 rfl rfl ?_
    refine v_icmp_ne (pt := 41) (pf := 34) hc_X3_reasonFor dX3_reasonFor_31 rfl rfl e (fun _ e => ?_) (fun _ e => ?_)
    · refine v_aload_n (pc' := 35) hc_X3_reasonFor dX3_reasonFor_34 rfl rfl 1 rfl ?_
      refine v_iconst (pc' := 36) (v := 5) hc_X3_reasonFor dX3_reasonFor_35 rfl rfl ?_
      refine v_iload_n (pc' := 37) hc_X3_reasonFor dX3_reasonFor_36 rfl rfl 3 rfl ?_
      obtain ⟨c17, e⟩ := gd_of e
      obtain ⟨r18, h19, e20, e⟩ := bd2_of e
      refine k_V (pc' := 40) (ci := 2) (n := 2) hc_X3_reasonFor ho_X3_reasonFor rfl c17 (w_X3_refused D l hl x0 (5 : Int32) x2 h15 e20) (wA_l q2335) q2337 (wA_l qs26) q85 q2338 hy_120 ⟨Nat.le_of_ble_eq_true rfl, Nat.le_of_ble_eq_true rfl⟩ rfl rfl (Nat.le_of_ble_eq_true rfl) dX3_reasonFor_37 rfl (kS ?_) kN
      obtain ⟨rfl, rfl⟩ := ret_of e
      exact v_iret hc_X3_reasonFor rfl dX3_reasonFor_40 rfl rfl
    · refine v_iload_n (pc' := 42) hc_X3_reasonFor dX3_reasonFor_41 rfl rfl 0 rfl ?_
      refine v_if_le (pt := 168) (pf := 45) hc_X3_reasonFor dX3_reasonFor_42 rfl rfl e (fun _ e => ?_) (fun _ e => ?_)
      · refine v_pick [1, 2, 3] rfl ?_
        exact w_X3_reasonFor_j168 D l hl as h0 x0 x1 x2 h15 e
      · refine v_aload_n (pc' := 46) hc_X3_reasonFor dX3_reasonFor_45 rfl rfl 1 rfl ?_
        refine v_iload_n (pc' := 47) hc_X3_reasonFor dX3_reasonFor_46 rfl rfl 2 rfl ?_
        obtain ⟨c21, e⟩ := gd_of e
        obtain ⟨r22, h23, e24, e⟩ := bd2_of e
        refine k_V (pc' := 50) (ci := 2) (n := 1) hc_X3_reasonFor ho_X3_reasonFor rfl c21 (w_X3_firstRoll D l hl x0 x1 h15 e24) (wA_l q2474) q2476 (wA_l qs50) q85 q2477 hy_185 ⟨Nat.le_of_ble_eq_true rfl, Nat.le_of_ble_eq_true rfl⟩ rfl rfl (Nat.le_of_ble_eq_true rfl) dX3_reasonFor_47 rfl (kS ?_) kN
        refine v_istore (pc' := 52) (lv' := [(4, .int r22), (3, .int r2), (0, .ref x0), (1, .int x1), (2, .int x2)]) hc_X3_reasonFor dX3_reasonFor_50 rfl (Nat.le_of_ble_eq_true rfl) rfl ?_
        refine v_aload_n (pc' := 53) hc_X3_reasonFor dX3_reasonFor_52 rfl rfl 2 rfl ?_
        refine v_iload (pc' := 55) hc_X3_reasonFor dX3_reasonFor_53 rfl 0 rfl ?_
        refine v_iconst (pc' := 56) (v := 0) hc_X3_reasonFor dX3_reasonFor_55 rfl rfl ?_
        obtain ⟨c25, e⟩ := gd_of e
        obtain ⟨r26, h27, e28, e⟩ := bd2_of e
        refine k_V (pc' := 59) (ci := 2) (n := 2) hc_X3_reasonFor ho_X3_reasonFor rfl c25 (w_X3_rollRow D l hl x0 r22 (0 : Int32) h23 e28) (wA_l q2419) q2421 (wA_l qs40) q85 q2422 hy_165 ⟨Nat.le_of_ble_eq_true rfl, Nat.le_of_ble_eq_true rfl⟩ rfl rfl (Nat.le_of_ble_eq_true rfl) dX3_reasonFor_56 rfl (kS ?_) kN
        refine v_aload_n (pc' := 60) hc_X3_reasonFor dX3_reasonFor_59 rfl rfl 2 rfl ?_
        refine v_iload_n (pc' := 61) hc_X3_reasonFor dX3_reasonFor_60 rfl rfl 4 rfl ?_
        refine v_iconst (pc' := 62) (v := 0) hc_X3_reasonFor dX3_reasonFor_61 rfl rfl ?_
        obtain ⟨c29, e⟩ := gd_of e
        obtain ⟨r30, h31, e32, e⟩ := bd2_of e
        refine k_V (pc' := 65) (ci := 2) (n := 2) hc_X3_reasonFor ho_X3_reasonFor rfl c29 (w_X3_rollRow D l hl x0 x2 (0 : Int32) h27 e32) (wA_l q2419) q2421 (wA_l qs40) q85 q2422 hy_165 ⟨Nat.le_of_ble_eq_true rfl, Nat.le_of_ble_eq_true rfl⟩ rfl rfl (Nat.le_of_ble_eq_true rfl) dX3_reasonFor_62 rfl (kS ?_) kN
        refine v_icmp_eq (pt := 82) (pf := 68) hc_X3_reasonFor dX3_reasonFor_65 rfl rfl e (fun _ e => ?_) (fun _ e => ?_)
        · refine v_aload_n (pc' := 83) hc_X3_reasonFor dX3_reasonFor_82 rfl rfl 2 rfl ?_
          refine v_iload (pc' := 85) hc_X3_reasonFor dX3_reasonFor_83 rfl 0 rfl ?_
          obtain ⟨c33, e⟩ := gd_of e
          obtain ⟨r34, h35, e36, e⟩ := bd2_of e
          refine k_V (pc' := 88) (ci := 2) (n := 1) hc_X3_reasonFor ho_X3_reasonFor rfl c33 (w_X3_colourOf D l hl x0 r22 h31 e36) (wA_l q2423) q2425 (wA_l qs41) q85 q2426 hy_166 ⟨Nat.le_of_ble_eq_true rfl, Nat.le_of_ble_eq_true rfl⟩ rfl rfl (Nat.le_of_ble_eq_true rfl) dX3_reasonFor_85 rfl (kS ?_) kN
          refine v_aload_n (pc' := 89) hc_X3_reasonFor dX3_reasonFor_88 rfl rfl 2 rfl ?_
          refine v_iload_n (pc' := 90) hc_X3_reasonFor dX3_reasonFor_89 rfl rfl 4 rfl ?_
          obtain ⟨c37, e⟩ := gd_of e
          obtain ⟨r38, h39, e40, e⟩ := bd2_of e
          refine k_V (pc' := 93) (ci := 2) (n := 1) hc_X3_reasonFor ho_X3_reasonFor rfl c37 (w_X3_colourOf D l hl x0 x2 h35 e40) (wA_l q2423) q2425 (wA_l qs41) q85 q2426 hy_166 ⟨Nat.le_of_ble_eq_true rfl, Nat.le_of_ble_eq_true rfl⟩ rfl rfl (Nat.le_of_ble_eq_true rfl) dX3_reasonFor_90 rfl (kS ?_) kN
          refine v_icmp_eq (pt := 109) (pf := 96) hc_X3_reasonFor dX3_reasonFor_93 rfl rfl e (fun _ e => ?_) (fun _ e => ?_)
          · refine v_aload_n (pc' := 110) hc_X3_reasonFor dX3_reasonFor_109 rfl rfl 2 rfl ?_
            refine v_gfR (pc' := 113) hc_X3_reasonFor ho_X3_reasonFor KX3 1 (Nat.le_of_ble_eq_true rfl) q2243 (Or.inl rfl) dX3_reasonFor_110 rfl e (fun v41 _ e => ?_)
            refine v_iload_n (pc' := 114) hc_X3_reasonFor dX3_reasonFor_113 rfl rfl 3 rfl ?_
            refine v_iload_n (pc' := 115) hc_X3_reasonFor dX3_reasonFor_114 rfl rfl 1 rfl ?_
            refine v_iconst (pc' := 116) (v := 1) hc_X3_reasonFor dX3_reasonFor_115 rfl rfl ?_
            refine v_isub (pc' := 117) hc_X3_reasonFor dX3_reasonFor_116 rfl ?_
            obtain ⟨r42, h43, e44, e⟩ := bd2_of e
            refine k_S (pc' := 120) (n := 2) hc_X3_reasonFor ho_X3_reasonFor (w_X3_dropAt D l hl x1 (r2 - (1 : Int32)) h39 e44) (wA_l q2439) q2440 q85 q2441 hy_169 ⟨Nat.le_of_ble_eq_true rfl, Nat.le_of_ble_eq_true rfl⟩ rfl rfl (Nat.le_of_ble_eq_true rfl) dX3_reasonFor_117 rfl (kS ?_) kN
            refine v_iald (pc' := 121) hc_X3_reasonFor dX3_reasonFor_120 rfl e (fun v45 _ e => ?_)
            refine v_istore (pc' := 123) (lv' := [(5, .int v45), (4, .int r22), (3, .int r2), (0, .ref x0), (1, .int x1), (2, .int x2)]) hc_X3_reasonFor dX3_reasonFor_121 rfl (Nat.le_of_ble_eq_true rfl) rfl ?_
            refine v_aload_n (pc' := 124) hc_X3_reasonFor dX3_reasonFor_123 rfl rfl 3 rfl ?_
            refine v_aload_n (pc' := 125) hc_X3_reasonFor dX3_reasonFor_124 rfl rfl 3 rfl ?_
            refine v_iload (pc' := 127) hc_X3_reasonFor dX3_reasonFor_125 rfl 0 rfl ?_
            refine v_iconst (pc' := 128) (v := 3) hc_X3_reasonFor dX3_reasonFor_127 rfl rfl ?_
            obtain ⟨c46, e⟩ := gd_of e
            obtain ⟨r47, h48, e49, e⟩ := bd2_of e
            refine k_V (pc' := 131) (ci := 2) (n := 2) hc_X3_reasonFor ho_X3_reasonFor rfl c46 (w_X3_rollRow D l hl x0 v45 (3 : Int32) h43 e49) (wA_l q2419) q2421 (wA_l qs40) q85 q2422 hy_165 ⟨Nat.le_of_ble_eq_true rfl, Nat.le_of_ble_eq_true rfl⟩ rfl rfl (Nat.le_of_ble_eq_true rfl) dX3_reasonFor_128 rfl (kS ?_) kN
            refine v_aload_n (pc' := 132) hc_X3_reasonFor dX3_reasonFor_131 rfl rfl 3 rfl ?_
            refine v_iload_n (pc' := 133) hc_X3_reasonFor dX3_reasonFor_132 rfl rfl 5 rfl ?_
            refine v_iconst (pc' := 134) (v := 3) hc_X3_reasonFor dX3_reasonFor_133 rfl rfl ?_
            obtain ⟨c50, e⟩ := gd_of e
            obtain ⟨r51, h52, e53, e⟩ := bd2_of e
            refine k_V (pc' := 137) (ci := 2) (n := 2) hc_X3_reasonFor ho_X3_reasonFor rfl c50 (w_X3_rollRow D l hl x0 x2 (3 : Int32) h48 e53) (wA_l q2419) q2421 (wA_l qs40) q85 q2422 hy_165 ⟨Nat.le_of_ble_eq_true rfl, Nat.le_of_ble_eq_true rfl⟩ rfl rfl (Nat.le_of_ble_eq_true rfl) dX3_reasonFor_134 rfl (kS ?_) kN
            obtain ⟨c54, e⟩ := gd_of e
            obtain ⟨r55, h56, e57, e⟩ := bd2_of e
            refine k_V (pc' := 140) (ci := 2) (n := 2) hc_X3_reasonFor ho_X3_reasonFor rfl c54 (w_X3_apart D l hl x0 r47 r51 h52 e57) (wA_l q2454) q2456 (wA_l qs47) q85 q2457 hy_175 ⟨Nat.le_of_ble_eq_true rfl, Nat.le_of_ble_eq_true rfl⟩ rfl rfl (Nat.le_of_ble_eq_true rfl) dX3_reasonFor_137 rfl (kS ?_) kN
            refine v_iconst (pc' := 141) (v := 1) hc_X3_reasonFor dX3_reasonFor_140 rfl rfl ?_
            refine v_icmp_le (pt := 168) (pf := 144) hc_X3_reasonFor dX3_reasonFor_141 rfl rfl e (fun _ e => ?_) (fun _ e => ?_)
            · refine v_pick [3, 4, 5] rfl ?_
              exact w_X3_reasonFor_j168 D l hl as h0 x0 x1 x2 h56 e
            · refine v_aload_n (pc' := 145) hc_X3_reasonFor dX3_reasonFor_144 rfl rfl 3 rfl ?_
              refine v_bipush (pc' := 147) (v := 8) hc_X3_reasonFor dX3_reasonFor_145 rfl rfl ?_
              refine v_aload_n (pc' := 148) hc_X3_reasonFor dX3_reasonFor_147 rfl rfl 3 rfl ?_
              refine v_aload_n (pc' := 149) hc_X3_reasonFor dX3_reasonFor_148 rfl rfl 3 rfl ?_
              refine v_iload (pc' := 151) hc_X3_reasonFor dX3_reasonFor_149 rfl 0 rfl ?_
              refine v_iconst (pc' := 152) (v := 3) hc_X3_reasonFor dX3_reasonFor_151 rfl rfl ?_
              obtain ⟨c58, e⟩ := gd_of e
              obtain ⟨r59, h60, e61, e⟩ := bd2_of e
              refine k_V (pc' := 155) (ci := 2) (n := 2) hc_X3_reasonFor ho_X3_reasonFor rfl c58 (w_X3_rollRow D l hl x0 v45 (3 : Int32) h56 e61) (wA_l q2419) q2421 (wA_l qs40) q85 q2422 hy_165 ⟨Nat.le_of_ble_eq_true rfl, Nat.le_of_ble_eq_true rfl⟩ rfl rfl (Nat.le_of_ble_eq_true rfl) dX3_reasonFor_152 rfl (kS ?_) kN
              refine v_aload_n (pc' := 156) hc_X3_reasonFor dX3_reasonFor_155 rfl rfl 3 rfl ?_
              refine v_iload_n (pc' := 157) hc_X3_reasonFor dX3_reasonFor_156 rfl rfl 5 rfl ?_
              refine v_iconst (pc' := 158) (v := 3) hc_X3_reasonFor dX3_reasonFor_157 rfl rfl ?_
              obtain ⟨c62, e⟩ := gd_of e
              obtain ⟨r63, h64, e65, e⟩ := bd2_of e
              refine k_V (pc' := 161) (ci := 2) (n := 2) hc_X3_reasonFor ho_X3_reasonFor rfl c62 (w_X3_rollRow D l hl x0 x2 (3 : Int32) h60 e65) (wA_l q2419) q2421 (wA_l qs40) q85 q2422 hy_165 ⟨Nat.le_of_ble_eq_true rfl, Nat.le_of_ble_eq_true rfl⟩ rfl rfl (Nat.le_of_ble_eq_true rfl) dX3_reasonFor_158 rfl (kS ?_) kN
              obtain ⟨c66, e⟩ := gd_of e
              obtain ⟨r67, h68, e69, e⟩ := bd2_of e
              refine k_V (pc' := 164) (ci := 2) (n := 2) hc_X3_reasonFor ho_X3_reasonFor rfl c66 (w_X3_apart D l hl x0 r59 r63 h64 e69) (wA_l q2454) q2456 (wA_l qs47) q85 q2457 hy_175 ⟨Nat.le_of_ble_eq_true rfl, Nat.le_of_ble_eq_true rfl⟩ rfl rfl (Nat.le_of_ble_eq_true rfl) dX3_reasonFor_161 rfl (kS ?_) kN
              obtain ⟨c70, e⟩ := gd_of e
              obtain ⟨r71, h72, e73, e⟩ := bd2_of e
              refine k_V (pc' := 167) (ci := 2) (n := 2) hc_X3_reasonFor ho_X3_reasonFor rfl c70 (w_X3_refused D l hl x0 (8 : Int32) r67 h68 e73) (wA_l q2335) q2337 (wA_l qs26) q85 q2338 hy_120 ⟨Nat.le_of_ble_eq_true rfl, Nat.le_of_ble_eq_true rfl⟩ rfl rfl (Nat.le_of_ble_eq_true rfl) dX3_reasonFor_164 rfl (kS ?_) kN
              obtain ⟨rfl, rfl⟩ := ret_of e
              exact v_iret hc_X3_reasonFor rfl dX3_reasonFor_167 rfl rfl
          · refine v_aload_n (pc' := 97) hc_X3_reasonFor dX3_reasonFor_96 rfl rfl 2 rfl ?_
            refine v_bipush (pc' := 99) (v := 7) hc_X3_reasonFor dX3_reasonFor_97 rfl rfl ?_
            refine v_aload_n (pc' := 100) hc_X3_reasonFor dX3_reasonFor_99 rfl rfl 2 rfl ?_
            refine v_iload (pc' := 102) hc_X3_reasonFor dX3_reasonFor_100 rfl 0 rfl ?_
            obtain ⟨c74, e⟩ := gd_of e
            obtain ⟨r75, h76, e77, e⟩ := bd2_of e
            refine k_V (pc' := 105) (ci := 2) (n := 1) hc_X3_reasonFor ho_X3_reasonFor rfl c74 (w_X3_colourOf D l hl x0 r22 h39 e77) (wA_l q2423) q2425 (wA_l qs41) q85 q2426 hy_166 ⟨Nat.le_of_ble_eq_true rfl, Nat.le_of_ble_eq_true rfl⟩ rfl rfl (Nat.le_of_ble_eq_true rfl) dX3_reasonFor_102 rfl (kS ?_) kN
            obtain ⟨c78, e⟩ := gd_of e
            obtain ⟨r79, h80, e81, e⟩ := bd2_of e
            refine k_V (pc' := 108) (ci := 2) (n := 2) hc_X3_reasonFor ho_X3_reasonFor rfl c78 (w_X3_refused D l hl x0 (7 : Int32) r75 h76 e81) (wA_l q2335) q2337 (wA_l qs26) q85 q2338 hy_120 ⟨Nat.le_of_ble_eq_true rfl, Nat.le_of_ble_eq_true rfl⟩ rfl rfl (Nat.le_of_ble_eq_true rfl) dX3_reasonFor_105 rfl (kS ?_) kN
            obtain ⟨rfl, rfl⟩ := ret_of e
            exact v_iret hc_X3_reasonFor rfl dX3_reasonFor_108 rfl rfl
        · refine v_aload_n (pc' := 69) hc_X3_reasonFor dX3_reasonFor_68 rfl rfl 2 rfl ?_
          refine v_bipush (pc' := 71) (v := 6) hc_X3_reasonFor dX3_reasonFor_69 rfl rfl ?_
          refine v_aload_n (pc' := 72) hc_X3_reasonFor dX3_reasonFor_71 rfl rfl 2 rfl ?_
          refine v_iload (pc' := 74) hc_X3_reasonFor dX3_reasonFor_72 rfl 0 rfl ?_
          refine v_iconst (pc' := 75) (v := 0) hc_X3_reasonFor dX3_reasonFor_74 rfl rfl ?_
          obtain ⟨c82, e⟩ := gd_of e
          obtain ⟨r83, h84, e85, e⟩ := bd2_of e
          refine k_V (pc' := 78) (ci := 2) (n := 2) hc_X3_reasonFor ho_X3_reasonFor rfl c82 (w_X3_rollRow D l hl x0 r22 (0 : Int32) h31 e85) (wA_l q2419) q2421 (wA_l qs40) q85 q2422 hy_165 ⟨Nat.le_of_ble_eq_true rfl, Nat.le_of_ble_eq_true rfl⟩ rfl rfl (Nat.le_of_ble_eq_true rfl) dX3_reasonFor_75 rfl (kS ?_) kN
          obtain ⟨c86, e⟩ := gd_of e
          obtain ⟨r87, h88, e89, e⟩ := bd2_of e
          refine k_V (pc' := 81) (ci := 2) (n := 2) hc_X3_reasonFor ho_X3_reasonFor rfl c86 (w_X3_refused D l hl x0 (6 : Int32) r83 h84 e89) (wA_l q2335) q2337 (wA_l qs26) q85 q2338 hy_120 ⟨Nat.le_of_ble_eq_true rfl, Nat.le_of_ble_eq_true rfl⟩ rfl rfl (Nat.le_of_ble_eq_true rfl) dX3_reasonFor_78 rfl (kS ?_) kN
          obtain ⟨rfl, rfl⟩ := ret_of e
          exact v_iret hc_X3_reasonFor rfl dX3_reasonFor_81 rfl rfl
theorem w_X3_reasonFor (D : va_G) (l : Launch) (hl : l.stackTraces = false) (x0 : Nat) (x1 : Int32) (x2 : Int32) (h : AH) {r : Int32} {hF : AH} (e : f_X3_reasonFor x0 x1 x2 h = some (r, hF)) : MetV D l yX3_reasonFor (Cond.code yX3_reasonFor cX3_reasonFor 6 (Option.some .int)) 6 162 [.ref x0, .int x1, .int x2] h hF (oI r) :=
  met_ofF (by decide +kernel) hl (Nat.le_of_ble_eq_true rfl) rfl (v_X3_reasonFor D l hl [.ref x0, .int x1, .int x2] h x0 x1 x2 h e)
/-! BlockPapersModel.hangs(II)I  -/
abbrev G_X3_hangs (D : va_G) (l : Launch) (as : List Value) (h0 hF : AH) (o : Out) : CT := (D, l, (yX3_hangs.cls, yX3_hangs, cX3_hangs, 6, (Option.some .int), 7, 187, []), as, h0, hF, o)
theorem hc_X3_hangs {D : va_G} {l : Launch} {as : List Value} {h0 hF : AH} {o : Out} : gC (G_X3_hangs D l as h0 hF o) = cX3_hangs := rfl
theorem ho_X3_hangs {D : va_G} {l : Launch} {as : List Value} {h0 hF : AH} {o : Out} : gO (G_X3_hangs D l as h0 hF o) = "BlockPapersModel" := rfl
theorem hp_X3_hangs {D : va_G} {l : Launch} {as : List Value} {h0 hF : AH} {o : Out} (pc : Nat) : ∀ z ∈ tableOf (gHd (G_X3_hangs D l as h0 hF o)), covers z pc = false := hpN
def f_X3_hangs (x0 : Nat) (x1 : Int32) (x2 : Int32) (h : AH) : Option (Int32 × AH) :=
  gd (isC h 2 x0) <|
  bd2 (f_X3_reasonFor x0 x1 x2 h) fun r2 h3 =>
  if r2 ≤ 0 then (
    gd (isC h3 2 x0) <|
    bd2 (f_X3_wasteFor x0 x1 x2 h3) fun r6 h7 =>
    gd (isC h7 2 x0) <|
    bd2 (f_X3_roomRow x0 x1 (2 : Int32) h7) fun r10 h11 =>
    bd2 (f_X3_dropAt x1 r10 h11) fun r13 h14 =>
    bd (gtR h14 2 x0 1) fun v16 =>
    bd (stI h14 v16 r13 x2) fun h17 =>
    bd (gtR h17 2 x0 1) fun v18 =>
    gd (isC h17 2 x0) <|
    bd2 (f_X3_rollRow x0 x2 (4 : Int32) h17) fun r20 h21 =>
    gd (isC h21 2 x0) <|
    bd2 (f_X3_rollRow x0 x2 (0 : Int32) h21) fun r24 h25 =>
    gd (isC h25 2 x0) <|
    bd2 (f_X3_blockRow x0 r24 (0 : Int32) h25) fun r28 h29 =>
    gd (decide (¬ r28 = 0)) <|
    bd (stI h29 v18 (r13 + (1 : Int32)) ((r20 + r6) - (r20 + r6) / r28 * r28)) fun h32 =>
    bd (gtR h32 2 x0 1) fun v33 =>
    bd (stI h32 v33 (r13 + (2 : Int32)) r6) fun h34 =>
    bd (gtR h34 2 x0 1) fun v35 =>
    bd (ldI h34 0 v35 (((79 : Int32) + ((6 : Int32) * x2)) + (4 : Int32))) fun v36 =>
    gd (isC h34 2 x0) <|
    bd2 (f_X3_roomRow x0 x1 (0 : Int32) h34) fun r38 h39 =>
    bd (stI h39 v35 (((79 : Int32) + ((6 : Int32) * x2)) + (4 : Int32)) (v36 + (r6 + r38))) fun h41 =>
    bd (gtR h41 2 x0 1) fun v42 =>
    bd (ldI h41 0 v42 (((223 : Int32) + ((5 : Int32) * x1)) + (2 : Int32))) fun v43 =>
    bd (stI h41 v42 (((223 : Int32) + ((5 : Int32) * x1)) + (2 : Int32)) (v43 + (1 : Int32))) fun h44 =>
    bd (gtR h44 2 x0 1) fun v45 =>
    bd (ldI h44 0 v45 (((223 : Int32) + ((5 : Int32) * x1)) + (3 : Int32))) fun v46 =>
    bd (stI h44 v45 (((223 : Int32) + ((5 : Int32) * x1)) + (3 : Int32)) (v46 + r6)) fun h47 =>
    bd (gtR h47 2 x0 1) fun v48 =>
    bd (ldI h47 0 v48 (5 : Int32)) fun v49 =>
    bd (stI h47 v48 (5 : Int32) (v49 + r6)) fun h50 =>
    gd (isC h50 2 x0) <|
    bd2 (f_X3_done x0 r6 h50) fun r52 h53 =>
    some (r52, h53)
  ) else (
    some (r2, h3)
  )
theorem v_X3_hangs (D : va_G) (l : Launch) (hl : l.stackTraces = false) (as : List Value) (h0 : AH) {r : Int32} {hF : AH} (x0 : Nat) (x1 : Int32) (x2 : Int32) (h : AH) (e : f_X3_hangs x0 x1 x2 h = some (r, hF)) : V (G_X3_hangs D l as h0 hF (oI r)) h 0 [(0, .ref x0), (1, .int x1), (2, .int x2)] [] := by
  unfold f_X3_hangs at e
  refine v_aload_n (pc' := 1) hc_X3_hangs dX3_hangs_0 rfl rfl 0 rfl ?_
  refine v_iload_n (pc' := 2) hc_X3_hangs dX3_hangs_1 rfl rfl 1 rfl ?_
  refine v_iload_n (pc' := 3) hc_X3_hangs dX3_hangs_2 rfl rfl 2 rfl ?_
  obtain ⟨c1, e⟩ := gd_of e
  obtain ⟨r2, h3, e4, e⟩ := bd2_of e
  refine k_V (pc' := 6) (ci := 2) (n := 2) hc_X3_hangs ho_X3_hangs rfl c1 (w_X3_reasonFor D l hl x0 x1 x2 h e4) (wA_l q2498) q2500 (wA_l qs54) q85 q2501 hy_195 ⟨Nat.le_of_ble_eq_true rfl, Nat.le_of_ble_eq_true rfl⟩ rfl rfl (Nat.le_of_ble_eq_true rfl) dX3_hangs_3 rfl (kS ?_) kN
  refine v_istore_n (pc' := 7) (lv' := [(3, .int r2), (0, .ref x0), (1, .int x1), (2, .int x2)]) hc_X3_hangs dX3_hangs_6 rfl rfl (Nat.le_of_ble_eq_true rfl) rfl ?_
  refine v_iload_n (pc' := 8) hc_X3_hangs dX3_hangs_7 rfl rfl 0 rfl ?_
  refine v_if_le (pt := 13) (pf := 11) hc_X3_hangs dX3_hangs_8 rfl rfl e (fun _ e => ?_) (fun _ e => ?_)
  · refine v_aload_n (pc' := 14) hc_X3_hangs dX3_hangs_13 rfl rfl 1 rfl ?_
    refine v_iload_n (pc' := 15) hc_X3_hangs dX3_hangs_14 rfl rfl 2 rfl ?_
    refine v_iload_n (pc' := 16) hc_X3_hangs dX3_hangs_15 rfl rfl 3 rfl ?_
    obtain ⟨c5, e⟩ := gd_of e
    obtain ⟨r6, h7, e8, e⟩ := bd2_of e
    refine k_V (pc' := 19) (ci := 2) (n := 2) hc_X3_hangs ho_X3_hangs rfl c5 (w_X3_wasteFor D l hl x0 x1 x2 h3 e8) (wA_l q2502) q2504 (wA_l qs55) q85 q2505 hy_194 ⟨Nat.le_of_ble_eq_true rfl, Nat.le_of_ble_eq_true rfl⟩ rfl rfl (Nat.le_of_ble_eq_true rfl) dX3_hangs_16 rfl (kS ?_) kN
    refine v_istore (pc' := 21) (lv' := [(4, .int r6), (3, .int r2), (0, .ref x0), (1, .int x1), (2, .int x2)]) hc_X3_hangs dX3_hangs_19 rfl (Nat.le_of_ble_eq_true rfl) rfl ?_
    refine v_iload_n (pc' := 22) hc_X3_hangs dX3_hangs_21 rfl rfl 3 rfl ?_
    refine v_aload_n (pc' := 23) hc_X3_hangs dX3_hangs_22 rfl rfl 2 rfl ?_
    refine v_iload_n (pc' := 24) hc_X3_hangs dX3_hangs_23 rfl rfl 3 rfl ?_
    refine v_iconst (pc' := 25) (v := 2) hc_X3_hangs dX3_hangs_24 rfl rfl ?_
    obtain ⟨c9, e⟩ := gd_of e
    obtain ⟨r10, h11, e12, e⟩ := bd2_of e
    refine k_V (pc' := 28) (ci := 2) (n := 2) hc_X3_hangs ho_X3_hangs rfl c9 (w_X3_roomRow D l hl x0 x1 (2 : Int32) h7 e12) (wA_l q2435) q2437 (wA_l qs44) q85 q2438 hy_168 ⟨Nat.le_of_ble_eq_true rfl, Nat.le_of_ble_eq_true rfl⟩ rfl rfl (Nat.le_of_ble_eq_true rfl) dX3_hangs_25 rfl (kS ?_) kN
    obtain ⟨r13, h14, e15, e⟩ := bd2_of e
    refine k_S (pc' := 31) (n := 2) hc_X3_hangs ho_X3_hangs (w_X3_dropAt D l hl x1 r10 h11 e15) (wA_l q2439) q2440 q85 q2441 hy_169 ⟨Nat.le_of_ble_eq_true rfl, Nat.le_of_ble_eq_true rfl⟩ rfl rfl (Nat.le_of_ble_eq_true rfl) dX3_hangs_28 rfl (kS ?_) kN
    refine v_istore (pc' := 33) (lv' := [(5, .int r13), (4, .int r6), (3, .int r2), (0, .ref x0), (1, .int x1), (2, .int x2)]) hc_X3_hangs dX3_hangs_31 rfl (Nat.le_of_ble_eq_true rfl) rfl ?_
    refine v_aload_n (pc' := 34) hc_X3_hangs dX3_hangs_33 rfl rfl 3 rfl ?_
    refine v_gfR (pc' := 37) hc_X3_hangs ho_X3_hangs KX3 1 (Nat.le_of_ble_eq_true rfl) q2243 (Or.inl rfl) dX3_hangs_34 rfl e (fun v16 _ e => ?_)
    refine v_iload (pc' := 39) hc_X3_hangs dX3_hangs_37 rfl 0 rfl ?_
    refine v_iload_n (pc' := 40) hc_X3_hangs dX3_hangs_39 rfl rfl 5 rfl ?_
    refine v_iast (pc' := 41) hc_X3_hangs dX3_hangs_40 rfl e (fun h17 _ e => ?_)
    refine v_aload_n (pc' := 42) hc_X3_hangs dX3_hangs_41 rfl rfl 3 rfl ?_
    refine v_gfR (pc' := 45) hc_X3_hangs ho_X3_hangs KX3 1 (Nat.le_of_ble_eq_true rfl) q2243 (Or.inl rfl) dX3_hangs_42 rfl e (fun v18 _ e => ?_)
    refine v_iload (pc' := 47) hc_X3_hangs dX3_hangs_45 rfl 0 rfl ?_
    refine v_iconst (pc' := 48) (v := 1) hc_X3_hangs dX3_hangs_47 rfl rfl ?_
    refine v_iadd (pc' := 49) hc_X3_hangs dX3_hangs_48 rfl ?_
    refine v_aload_n (pc' := 50) hc_X3_hangs dX3_hangs_49 rfl rfl 3 rfl ?_
    refine v_iload_n (pc' := 51) hc_X3_hangs dX3_hangs_50 rfl rfl 5 rfl ?_
    refine v_iconst (pc' := 52) (v := 4) hc_X3_hangs dX3_hangs_51 rfl rfl ?_
    obtain ⟨c19, e⟩ := gd_of e
    obtain ⟨r20, h21, e22, e⟩ := bd2_of e
    refine k_V (pc' := 55) (ci := 2) (n := 2) hc_X3_hangs ho_X3_hangs rfl c19 (w_X3_rollRow D l hl x0 x2 (4 : Int32) h17 e22) (wA_l q2419) q2421 (wA_l qs40) q85 q2422 hy_165 ⟨Nat.le_of_ble_eq_true rfl, Nat.le_of_ble_eq_true rfl⟩ rfl rfl (Nat.le_of_ble_eq_true rfl) dX3_hangs_52 rfl (kS ?_) kN
    refine v_iload (pc' := 57) hc_X3_hangs dX3_hangs_55 rfl 1 rfl ?_
    refine v_iadd (pc' := 58) hc_X3_hangs dX3_hangs_57 rfl ?_
    refine v_aload_n (pc' := 59) hc_X3_hangs dX3_hangs_58 rfl rfl 3 rfl ?_
    refine v_aload_n (pc' := 60) hc_X3_hangs dX3_hangs_59 rfl rfl 3 rfl ?_
    refine v_iload_n (pc' := 61) hc_X3_hangs dX3_hangs_60 rfl rfl 5 rfl ?_
    refine v_iconst (pc' := 62) (v := 0) hc_X3_hangs dX3_hangs_61 rfl rfl ?_
    obtain ⟨c23, e⟩ := gd_of e
    obtain ⟨r24, h25, e26, e⟩ := bd2_of e
    refine k_V (pc' := 65) (ci := 2) (n := 2) hc_X3_hangs ho_X3_hangs rfl c23 (w_X3_rollRow D l hl x0 x2 (0 : Int32) h21 e26) (wA_l q2419) q2421 (wA_l qs40) q85 q2422 hy_165 ⟨Nat.le_of_ble_eq_true rfl, Nat.le_of_ble_eq_true rfl⟩ rfl rfl (Nat.le_of_ble_eq_true rfl) dX3_hangs_62 rfl (kS ?_) kN
    refine v_iconst (pc' := 66) (v := 0) hc_X3_hangs dX3_hangs_65 rfl rfl ?_
    obtain ⟨c27, e⟩ := gd_of e
    obtain ⟨r28, h29, e30, e⟩ := bd2_of e
    refine k_V (pc' := 69) (ci := 2) (n := 2) hc_X3_hangs ho_X3_hangs rfl c27 (w_X3_blockRow D l hl x0 r24 (0 : Int32) h25 e30) (wA_l q2363) q2365 (wA_l qs32) q85 q2366 hy_131 ⟨Nat.le_of_ble_eq_true rfl, Nat.le_of_ble_eq_true rfl⟩ rfl rfl (Nat.le_of_ble_eq_true rfl) dX3_hangs_66 rfl (kS ?_) kN
    obtain ⟨c31, e⟩ := gd_of e
    refine v_irem (pc' := 70) hc_X3_hangs dX3_hangs_69 rfl (of_decide_eq_true c31) ?_
    refine v_iast (pc' := 71) hc_X3_hangs dX3_hangs_70 rfl e (fun h32 _ e => ?_)
    refine v_aload_n (pc' := 72) hc_X3_hangs dX3_hangs_71 rfl rfl 3 rfl ?_
    refine v_gfR (pc' := 75) hc_X3_hangs ho_X3_hangs KX3 1 (Nat.le_of_ble_eq_true rfl) q2243 (Or.inl rfl) dX3_hangs_72 rfl e (fun v33 _ e => ?_)
    refine v_iload (pc' := 77) hc_X3_hangs dX3_hangs_75 rfl 0 rfl ?_
    refine v_iconst (pc' := 78) (v := 2) hc_X3_hangs dX3_hangs_77 rfl rfl ?_
    refine v_iadd (pc' := 79) hc_X3_hangs dX3_hangs_78 rfl ?_
    refine v_iload (pc' := 81) hc_X3_hangs dX3_hangs_79 rfl 1 rfl ?_
    refine v_iast (pc' := 82) hc_X3_hangs dX3_hangs_81 rfl e (fun h34 _ e => ?_)
    refine v_aload_n (pc' := 83) hc_X3_hangs dX3_hangs_82 rfl rfl 3 rfl ?_
    refine v_gfR (pc' := 86) hc_X3_hangs ho_X3_hangs KX3 1 (Nat.le_of_ble_eq_true rfl) q2243 (Or.inl rfl) dX3_hangs_83 rfl e (fun v35 _ e => ?_)
    refine v_bipush (pc' := 88) (v := 79) hc_X3_hangs dX3_hangs_86 rfl rfl ?_
    refine v_bipush (pc' := 90) (v := 6) hc_X3_hangs dX3_hangs_88 rfl rfl ?_
    refine v_iload_n (pc' := 91) hc_X3_hangs dX3_hangs_90 rfl rfl 5 rfl ?_
    refine v_imul (pc' := 92) hc_X3_hangs dX3_hangs_91 rfl ?_
    refine v_iadd (pc' := 93) hc_X3_hangs dX3_hangs_92 rfl ?_
    refine v_iconst (pc' := 94) (v := 4) hc_X3_hangs dX3_hangs_93 rfl rfl ?_
    refine v_iadd (pc' := 95) hc_X3_hangs dX3_hangs_94 rfl ?_
    refine v_dup2 (pc' := 96) hc_X3_hangs dX3_hangs_95 rfl rfl rfl ?_
    refine v_iald (pc' := 97) hc_X3_hangs dX3_hangs_96 rfl e (fun v36 _ e => ?_)
    refine v_iload (pc' := 99) hc_X3_hangs dX3_hangs_97 rfl 1 rfl ?_
    refine v_aload_n (pc' := 100) hc_X3_hangs dX3_hangs_99 rfl rfl 3 rfl ?_
    refine v_iload_n (pc' := 101) hc_X3_hangs dX3_hangs_100 rfl rfl 4 rfl ?_
    refine v_iconst (pc' := 102) (v := 0) hc_X3_hangs dX3_hangs_101 rfl rfl ?_
    obtain ⟨c37, e⟩ := gd_of e
    obtain ⟨r38, h39, e40, e⟩ := bd2_of e
    refine k_V (pc' := 105) (ci := 2) (n := 2) hc_X3_hangs ho_X3_hangs rfl c37 (w_X3_roomRow D l hl x0 x1 (0 : Int32) h34 e40) (wA_l q2435) q2437 (wA_l qs44) q85 q2438 hy_168 ⟨Nat.le_of_ble_eq_true rfl, Nat.le_of_ble_eq_true rfl⟩ rfl rfl (Nat.le_of_ble_eq_true rfl) dX3_hangs_102 rfl (kS ?_) kN
    refine v_iadd (pc' := 106) hc_X3_hangs dX3_hangs_105 rfl ?_
    refine v_iadd (pc' := 107) hc_X3_hangs dX3_hangs_106 rfl ?_
    refine v_iast (pc' := 108) hc_X3_hangs dX3_hangs_107 rfl e (fun h41 _ e => ?_)
    refine v_aload_n (pc' := 109) hc_X3_hangs dX3_hangs_108 rfl rfl 3 rfl ?_
    refine v_gfR (pc' := 112) hc_X3_hangs ho_X3_hangs KX3 1 (Nat.le_of_ble_eq_true rfl) q2243 (Or.inl rfl) dX3_hangs_109 rfl e (fun v42 _ e => ?_)
    refine v_sipush (pc' := 115) (v := 223) hc_X3_hangs dX3_hangs_112 rfl rfl ?_
    refine v_iconst (pc' := 116) (v := 5) hc_X3_hangs dX3_hangs_115 rfl rfl ?_
    refine v_iload_n (pc' := 117) hc_X3_hangs dX3_hangs_116 rfl rfl 4 rfl ?_
    refine v_imul (pc' := 118) hc_X3_hangs dX3_hangs_117 rfl ?_
    refine v_iadd (pc' := 119) hc_X3_hangs dX3_hangs_118 rfl ?_
    refine v_iconst (pc' := 120) (v := 2) hc_X3_hangs dX3_hangs_119 rfl rfl ?_
    refine v_iadd (pc' := 121) hc_X3_hangs dX3_hangs_120 rfl ?_
    refine v_dup2 (pc' := 122) hc_X3_hangs dX3_hangs_121 rfl rfl rfl ?_
    refine v_iald (pc' := 123) hc_X3_hangs dX3_hangs_122 rfl e (fun v43 _ e => ?_)
    refine v_iconst (pc' := 124) (v := 1) hc_X3_hangs dX3_hangs_123 rfl rfl ?_
    refine v_iadd (pc' := 125) hc_X3_hangs dX3_hangs_124 rfl ?_
    refine v_iast (pc' := 126) hc_X3_hangs dX3_hangs_125 rfl e (fun h44 _ e => ?_)
    refine v_aload_n (pc' := 127) hc_X3_hangs dX3_hangs_126 rfl rfl 3 rfl ?_
    refine v_gfR (pc' := 130) hc_X3_hangs ho_X3_hangs KX3 1 (Nat.le_of_ble_eq_true rfl) q2243 (Or.inl rfl) dX3_hangs_127 rfl e (fun v45 _ e => ?_)
    refine v_sipush (pc' := 133) (v := 223) hc_X3_hangs dX3_hangs_130 rfl rfl ?_
    refine v_iconst (pc' := 134) (v := 5) hc_X3_hangs dX3_hangs_133 rfl rfl ?_
    refine v_iload_n (pc' := 135) hc_X3_hangs dX3_hangs_134 rfl rfl 4 rfl ?_
    refine v_imul (pc' := 136) hc_X3_hangs dX3_hangs_135 rfl ?_
    refine v_iadd (pc' := 137) hc_X3_hangs dX3_hangs_136 rfl ?_
    refine v_iconst (pc' := 138) (v := 3) hc_X3_hangs dX3_hangs_137 rfl rfl ?_
    refine v_iadd (pc' := 139) hc_X3_hangs dX3_hangs_138 rfl ?_
    refine v_dup2 (pc' := 140) hc_X3_hangs dX3_hangs_139 rfl rfl rfl ?_
    refine v_iald (pc' := 141) hc_X3_hangs dX3_hangs_140 rfl e (fun v46 _ e => ?_)
    refine v_iload (pc' := 143) hc_X3_hangs dX3_hangs_141 rfl 1 rfl ?_
    refine v_iadd (pc' := 144) hc_X3_hangs dX3_hangs_143 rfl ?_
    refine v_iast (pc' := 145) hc_X3_hangs dX3_hangs_144 rfl e (fun h47 _ e => ?_)
    refine v_aload_n (pc' := 146) hc_X3_hangs dX3_hangs_145 rfl rfl 3 rfl ?_
    refine v_gfR (pc' := 149) hc_X3_hangs ho_X3_hangs KX3 1 (Nat.le_of_ble_eq_true rfl) q2243 (Or.inl rfl) dX3_hangs_146 rfl e (fun v48 _ e => ?_)
    refine v_iconst (pc' := 150) (v := 5) hc_X3_hangs dX3_hangs_149 rfl rfl ?_
    refine v_dup2 (pc' := 151) hc_X3_hangs dX3_hangs_150 rfl rfl rfl ?_
    refine v_iald (pc' := 152) hc_X3_hangs dX3_hangs_151 rfl e (fun v49 _ e => ?_)
    refine v_iload (pc' := 154) hc_X3_hangs dX3_hangs_152 rfl 1 rfl ?_
    refine v_iadd (pc' := 155) hc_X3_hangs dX3_hangs_154 rfl ?_
    refine v_iast (pc' := 156) hc_X3_hangs dX3_hangs_155 rfl e (fun h50 _ e => ?_)
    refine v_aload_n (pc' := 157) hc_X3_hangs dX3_hangs_156 rfl rfl 3 rfl ?_
    refine v_iload (pc' := 159) hc_X3_hangs dX3_hangs_157 rfl 1 rfl ?_
    obtain ⟨c51, e⟩ := gd_of e
    obtain ⟨r52, h53, e54, e⟩ := bd2_of e
    refine k_V (pc' := 162) (ci := 2) (n := 1) hc_X3_hangs ho_X3_hangs rfl c51 (w_X3_done D l hl x0 r6 h50 e54) (wA_l q2339) q2341 (wA_l qs27) q85 q2342 hy_121 ⟨Nat.le_of_ble_eq_true rfl, Nat.le_of_ble_eq_true rfl⟩ rfl rfl (Nat.le_of_ble_eq_true rfl) dX3_hangs_159 rfl (kS ?_) kN
    obtain ⟨rfl, rfl⟩ := ret_of e
    exact v_iret hc_X3_hangs rfl dX3_hangs_162 rfl rfl
  · refine v_iload_n (pc' := 12) hc_X3_hangs dX3_hangs_11 rfl rfl 0 rfl ?_
    obtain ⟨rfl, rfl⟩ := ret_of e
    exact v_iret hc_X3_hangs rfl dX3_hangs_12 rfl rfl
theorem w_X3_hangs (D : va_G) (l : Launch) (hl : l.stackTraces = false) (x0 : Nat) (x1 : Int32) (x2 : Int32) (h : AH) {r : Int32} {hF : AH} (e : f_X3_hangs x0 x1 x2 h = some (r, hF)) : MetV D l yX3_hangs (Cond.code yX3_hangs cX3_hangs 6 (Option.some .int)) 7 187 [.ref x0, .int x1, .int x2] h hF (oI r) :=
  met_ofF (by decide +kernel) hl (Nat.le_of_ble_eq_true rfl) rfl (v_X3_hangs D l hl [.ref x0, .int x1, .int x2] h x0 x1 x2 h e)
/-! BlockPapersModel.hang(II)I  -/
abbrev G_X3_hang (D : va_G) (l : Launch) (as : List Value) (h0 hF : AH) (o : Out) : CT := (D, l, (yX3_hang.cls, yX3_hang, cX3_hang, 3, (Option.some .int), 8, 212, []), as, h0, hF, o)
theorem hc_X3_hang {D : va_G} {l : Launch} {as : List Value} {h0 hF : AH} {o : Out} : gC (G_X3_hang D l as h0 hF o) = cX3_hang := rfl
theorem ho_X3_hang {D : va_G} {l : Launch} {as : List Value} {h0 hF : AH} {o : Out} : gO (G_X3_hang D l as h0 hF o) = "BlockPapersModel" := rfl
theorem hp_X3_hang {D : va_G} {l : Launch} {as : List Value} {h0 hF : AH} {o : Out} (pc : Nat) : ∀ z ∈ tableOf (gHd (G_X3_hang D l as h0 hF o)), covers z pc = false := hpN
def f_X3_hang (x0 : Nat) (x1 : Int32) (x2 : Int32) (h : AH) : Option (Int32 × AH) :=
  bd (stF h 2 x0 0 (.int (0 : Int32))) fun h1 =>
  gd (isC h1 2 x0) <|
  bd2 (f_X3_remembers x0 h1) fun r3 h4 =>
  gd (isC h4 2 x0) <|
  bd2 (f_X3_isRoom x0 x1 h4) fun r7 h8 =>
  if r7 = 0 then (
    gd (isC h8 2 x0) <|
    bd2 (f_X3_fails x0 (1 : Int32) h8) fun r11 h12 =>
    some (r11, h12)
  ) else (
    gd (isC h8 2 x0) <|
    bd2 (f_X3_isRoll x0 x2 h8) fun r15 h16 =>
    if r15 = 0 then (
      gd (isC h16 2 x0) <|
      bd2 (f_X3_fails x0 (1 : Int32) h16) fun r19 h20 =>
      some (r19, h20)
    ) else (
      gd (isC h16 2 x0) <|
      bd2 (f_X3_hangs x0 x1 x2 h16) fun r23 h24 =>
      gd (isC h24 2 x0) <|
      bd2 (f_X3_ends x0 r23 (2 : Int32) h24) fun r27 h28 =>
      some (r27, h28)
    )
  )
theorem v_X3_hang (D : va_G) (l : Launch) (hl : l.stackTraces = false) (as : List Value) (h0 : AH) {r : Int32} {hF : AH} (x0 : Nat) (x1 : Int32) (x2 : Int32) (h : AH) (e : f_X3_hang x0 x1 x2 h = some (r, hF)) : V (G_X3_hang D l as h0 hF (oI r)) h 0 [(0, .ref x0), (1, .int x1), (2, .int x2)] [] := by
  unfold f_X3_hang at e
  refine v_aload_n (pc' := 1) hc_X3_hang dX3_hang_0 rfl rfl 0 rfl ?_
  refine v_iconst (pc' := 2) (v := 0) hc_X3_hang dX3_hang_1 rfl rfl ?_
  refine v_pf (pc' := 5) hc_X3_hang ho_X3_hang KX3 0 (Nat.le_of_ble_eq_true rfl) q2242 (Or.inl rfl) rfl dX3_hang_2 rfl rfl rfl e (fun h1 _ e => ?_)
  refine v_aload_n (pc' := 6) hc_X3_hang dX3_hang_5 rfl rfl 0 rfl ?_
  obtain ⟨c2, e⟩ := gd_of e
  obtain ⟨r3, h4, e5, e⟩ := bd2_of e
  refine k_V (pc' := 9) (ci := 2) (n := 0) hc_X3_hang ho_X3_hang rfl c2 (w_X3_remembers D l hl x0 h1 e5) (wA_l q2324) q2326 (wA_l qs24) q85 q2327 hy_117 ⟨Nat.le_of_ble_eq_true rfl, Nat.le_of_ble_eq_true rfl⟩ rfl rfl (Nat.le_of_ble_eq_true rfl) dX3_hang_6 rfl (kU ?_) kN
  refine v_aload_n (pc' := 10) hc_X3_hang dX3_hang_9 rfl rfl 0 rfl ?_
  refine v_iload_n (pc' := 11) hc_X3_hang dX3_hang_10 rfl rfl 1 rfl ?_
  obtain ⟨c6, e⟩ := gd_of e
  obtain ⟨r7, h8, e9, e⟩ := bd2_of e
  refine k_V (pc' := 14) (ci := 2) (n := 1) hc_X3_hang ho_X3_hang rfl c6 (w_X3_isRoom D l hl x0 x1 h4 e9) (wA_l q2470) q2472 (wA_l qs49) q85 q2473 hy_184 ⟨Nat.le_of_ble_eq_true rfl, Nat.le_of_ble_eq_true rfl⟩ rfl rfl (Nat.le_of_ble_eq_true rfl) dX3_hang_11 rfl (kS ?_) kN
  refine v_if_eq (pt := 39) (pf := 17) hc_X3_hang dX3_hang_14 rfl rfl e (fun _ e => ?_) (fun _ e => ?_)
  · refine v_aload_n (pc' := 40) hc_X3_hang dX3_hang_39 rfl rfl 0 rfl ?_
    refine v_iconst (pc' := 41) (v := 1) hc_X3_hang dX3_hang_40 rfl rfl ?_
    obtain ⟨c10, e⟩ := gd_of e
    obtain ⟨r11, h12, e13, e⟩ := bd2_of e
    refine k_V (pc' := 44) (ci := 2) (n := 1) hc_X3_hang ho_X3_hang rfl c10 (w_X3_fails D l hl x0 (1 : Int32) h8 e13) (wA_l q2351) q2353 (wA_l qs30) q85 q2354 hy_119 ⟨Nat.le_of_ble_eq_true rfl, Nat.le_of_ble_eq_true rfl⟩ rfl rfl (Nat.le_of_ble_eq_true rfl) dX3_hang_41 rfl (kS ?_) kN
    obtain ⟨rfl, rfl⟩ := ret_of e
    exact v_iret hc_X3_hang rfl dX3_hang_44 rfl rfl
  · refine v_aload_n (pc' := 18) hc_X3_hang dX3_hang_17 rfl rfl 0 rfl ?_
    refine v_iload_n (pc' := 19) hc_X3_hang dX3_hang_18 rfl rfl 2 rfl ?_
    obtain ⟨c14, e⟩ := gd_of e
    obtain ⟨r15, h16, e17, e⟩ := bd2_of e
    refine k_V (pc' := 22) (ci := 2) (n := 1) hc_X3_hang ho_X3_hang rfl c14 (w_X3_isRoll D l hl x0 x2 h8 e17) (wA_l q2415) q2417 (wA_l qs39) q85 q2418 hy_164 ⟨Nat.le_of_ble_eq_true rfl, Nat.le_of_ble_eq_true rfl⟩ rfl rfl (Nat.le_of_ble_eq_true rfl) dX3_hang_19 rfl (kS ?_) kN
    refine v_if_eq (pt := 39) (pf := 25) hc_X3_hang dX3_hang_22 rfl rfl e (fun _ e => ?_) (fun _ e => ?_)
    · refine v_aload_n (pc' := 40) hc_X3_hang dX3_hang_39 rfl rfl 0 rfl ?_
      refine v_iconst (pc' := 41) (v := 1) hc_X3_hang dX3_hang_40 rfl rfl ?_
      obtain ⟨c18, e⟩ := gd_of e
      obtain ⟨r19, h20, e21, e⟩ := bd2_of e
      refine k_V (pc' := 44) (ci := 2) (n := 1) hc_X3_hang ho_X3_hang rfl c18 (w_X3_fails D l hl x0 (1 : Int32) h16 e21) (wA_l q2351) q2353 (wA_l qs30) q85 q2354 hy_119 ⟨Nat.le_of_ble_eq_true rfl, Nat.le_of_ble_eq_true rfl⟩ rfl rfl (Nat.le_of_ble_eq_true rfl) dX3_hang_41 rfl (kS ?_) kN
      obtain ⟨rfl, rfl⟩ := ret_of e
      exact v_iret hc_X3_hang rfl dX3_hang_44 rfl rfl
    · refine v_aload_n (pc' := 26) hc_X3_hang dX3_hang_25 rfl rfl 0 rfl ?_
      refine v_aload_n (pc' := 27) hc_X3_hang dX3_hang_26 rfl rfl 0 rfl ?_
      refine v_iload_n (pc' := 28) hc_X3_hang dX3_hang_27 rfl rfl 1 rfl ?_
      refine v_iload_n (pc' := 29) hc_X3_hang dX3_hang_28 rfl rfl 2 rfl ?_
      obtain ⟨c22, e⟩ := gd_of e
      obtain ⟨r23, h24, e25, e⟩ := bd2_of e
      refine k_V (pc' := 32) (ci := 2) (n := 2) hc_X3_hang ho_X3_hang rfl c22 (w_X3_hangs D l hl x0 x1 x2 h16 e25) (wA_l q2494) q2496 (wA_l qs53) q85 q2497 hy_196 ⟨Nat.le_of_ble_eq_true rfl, Nat.le_of_ble_eq_true rfl⟩ rfl rfl (Nat.le_of_ble_eq_true rfl) dX3_hang_29 rfl (kS ?_) kN
      refine v_iconst (pc' := 33) (v := 2) hc_X3_hang dX3_hang_32 rfl rfl ?_
      obtain ⟨c26, e⟩ := gd_of e
      obtain ⟨r27, h28, e29, e⟩ := bd2_of e
      refine k_V (pc' := 36) (ci := 2) (n := 2) hc_X3_hang ho_X3_hang rfl c26 (w_X3_ends D l hl x0 r23 (2 : Int32) h24 e29) (wA_l q2343) q2345 (wA_l qs28) q85 q2346 hy_124 ⟨Nat.le_of_ble_eq_true rfl, Nat.le_of_ble_eq_true rfl⟩ rfl rfl (Nat.le_of_ble_eq_true rfl) dX3_hang_33 rfl (kS ?_) kN
      refine v_goto (pt := 44) hc_X3_hang dX3_hang_36 rfl ?_
      obtain ⟨rfl, rfl⟩ := ret_of e
      exact v_iret hc_X3_hang rfl dX3_hang_44 rfl rfl
theorem w_X3_hang (D : va_G) (l : Launch) (hl : l.stackTraces = false) (x0 : Nat) (x1 : Int32) (x2 : Int32) (h : AH) {r : Int32} {hF : AH} (e : f_X3_hang x0 x1 x2 h = some (r, hF)) : MetV D l yX3_hang (Cond.code yX3_hang cX3_hang 3 (Option.some .int)) 8 212 [.ref x0, .int x1, .int x2] h hF (oI r) :=
  met_ofF (by decide +kernel) hl (Nat.le_of_ble_eq_true rfl) rfl (v_X3_hang D l hl [.ref x0, .int x1, .int x2] h x0 x1 x2 h e)
/-! BlockPapersModel.why(IIZ)I  -/
abbrev G_X3_why (D : va_G) (l : Launch) (as : List Value) (h0 hF : AH) (o : Out) : CT := (D, l, (yX3_why.cls, yX3_why, cX3_why, 5, (Option.some .int), 7, 187, []), as, h0, hF, o)
theorem hc_X3_why {D : va_G} {l : Launch} {as : List Value} {h0 hF : AH} {o : Out} : gC (G_X3_why D l as h0 hF o) = cX3_why := rfl
theorem ho_X3_why {D : va_G} {l : Launch} {as : List Value} {h0 hF : AH} {o : Out} : gO (G_X3_why D l as h0 hF o) = "BlockPapersModel" := rfl
theorem hp_X3_why {D : va_G} {l : Launch} {as : List Value} {h0 hF : AH} {o : Out} (pc : Nat) : ∀ z ∈ tableOf (gHd (G_X3_why D l as h0 hF o)), covers z pc = false := hpN
def f_X3_why (x0 : Nat) (x1 : Int32) (x2 : Int32) (x3 : Int32) (h : AH) : Option (Int32 × AH) :=
  bd (stF h 2 x0 0 (.int (0 : Int32))) fun h1 =>
  gd (isC h1 2 x0) <|
  bd2 (f_X3_isRoom x0 x1 h1) fun r3 h4 =>
  if r3 = 0 then (
    gd (isC h4 2 x0) <|
    bd2 (f_X3_fails x0 (1 : Int32) h4) fun r7 h8 =>
    some (r7, h8)
  ) else (
    gd (isC h4 2 x0) <|
    bd2 (f_X3_isRoll x0 x2 h4) fun r11 h12 =>
    if r11 = 0 then (
      gd (isC h12 2 x0) <|
      bd2 (f_X3_fails x0 (1 : Int32) h12) fun r15 h16 =>
      some (r15, h16)
    ) else (
      gd (isC h12 2 x0) <|
      bd2 (f_X3_reasonFor x0 x1 x2 h12) fun r19 h20 =>
      if r19 = 0 then (
        some (r19, h20)
      ) else (
        if x3 = 0 then (
          some (r19, h20)
        ) else (
          bd (gtI h20 2 x0 18) fun v22 =>
          some (v22, h20)
        )
      )
    )
  )
theorem v_X3_why (D : va_G) (l : Launch) (hl : l.stackTraces = false) (as : List Value) (h0 : AH) {r : Int32} {hF : AH} (x0 : Nat) (x1 : Int32) (x2 : Int32) (x3 : Int32) (h : AH) (e : f_X3_why x0 x1 x2 x3 h = some (r, hF)) : V (G_X3_why D l as h0 hF (oI r)) h 0 [(0, .ref x0), (1, .int x1), (2, .int x2), (3, .int x3)] [] := by
  unfold f_X3_why at e
  refine v_aload_n (pc' := 1) hc_X3_why dX3_why_0 rfl rfl 0 rfl ?_
  refine v_iconst (pc' := 2) (v := 0) hc_X3_why dX3_why_1 rfl rfl ?_
  refine v_pf (pc' := 5) hc_X3_why ho_X3_why KX3 0 (Nat.le_of_ble_eq_true rfl) q2242 (Or.inl rfl) rfl dX3_why_2 rfl rfl rfl e (fun h1 _ e => ?_)
  refine v_aload_n (pc' := 6) hc_X3_why dX3_why_5 rfl rfl 0 rfl ?_
  refine v_iload_n (pc' := 7) hc_X3_why dX3_why_6 rfl rfl 1 rfl ?_
  obtain ⟨c2, e⟩ := gd_of e
  obtain ⟨r3, h4, e5, e⟩ := bd2_of e
  refine k_V (pc' := 10) (ci := 2) (n := 1) hc_X3_why ho_X3_why rfl c2 (w_X3_isRoom D l hl x0 x1 h1 e5) (wA_l q2470) q2472 (wA_l qs49) q85 q2473 hy_184 ⟨Nat.le_of_ble_eq_true rfl, Nat.le_of_ble_eq_true rfl⟩ rfl rfl (Nat.le_of_ble_eq_true rfl) dX3_why_7 rfl (kS ?_) kN
  refine v_if_eq (pt := 21) (pf := 13) hc_X3_why dX3_why_10 rfl rfl e (fun _ e => ?_) (fun _ e => ?_)
  · refine v_aload_n (pc' := 22) hc_X3_why dX3_why_21 rfl rfl 0 rfl ?_
    refine v_iconst (pc' := 23) (v := 1) hc_X3_why dX3_why_22 rfl rfl ?_
    obtain ⟨c6, e⟩ := gd_of e
    obtain ⟨r7, h8, e9, e⟩ := bd2_of e
    refine k_V (pc' := 26) (ci := 2) (n := 1) hc_X3_why ho_X3_why rfl c6 (w_X3_fails D l hl x0 (1 : Int32) h4 e9) (wA_l q2351) q2353 (wA_l qs30) q85 q2354 hy_119 ⟨Nat.le_of_ble_eq_true rfl, Nat.le_of_ble_eq_true rfl⟩ rfl rfl (Nat.le_of_ble_eq_true rfl) dX3_why_23 rfl (kS ?_) kN
    obtain ⟨rfl, rfl⟩ := ret_of e
    exact v_iret hc_X3_why rfl dX3_why_26 rfl rfl
  · refine v_aload_n (pc' := 14) hc_X3_why dX3_why_13 rfl rfl 0 rfl ?_
    refine v_iload_n (pc' := 15) hc_X3_why dX3_why_14 rfl rfl 2 rfl ?_
    obtain ⟨c10, e⟩ := gd_of e
    obtain ⟨r11, h12, e13, e⟩ := bd2_of e
    refine k_V (pc' := 18) (ci := 2) (n := 1) hc_X3_why ho_X3_why rfl c10 (w_X3_isRoll D l hl x0 x2 h4 e13) (wA_l q2415) q2417 (wA_l qs39) q85 q2418 hy_164 ⟨Nat.le_of_ble_eq_true rfl, Nat.le_of_ble_eq_true rfl⟩ rfl rfl (Nat.le_of_ble_eq_true rfl) dX3_why_15 rfl (kS ?_) kN
    refine v_if_ne (pt := 27) (pf := 21) hc_X3_why dX3_why_18 rfl rfl e (fun _ e => ?_) (fun _ e => ?_)
    · refine v_aload_n (pc' := 22) hc_X3_why dX3_why_21 rfl rfl 0 rfl ?_
      refine v_iconst (pc' := 23) (v := 1) hc_X3_why dX3_why_22 rfl rfl ?_
      obtain ⟨c14, e⟩ := gd_of e
      obtain ⟨r15, h16, e17, e⟩ := bd2_of e
      refine k_V (pc' := 26) (ci := 2) (n := 1) hc_X3_why ho_X3_why rfl c14 (w_X3_fails D l hl x0 (1 : Int32) h12 e17) (wA_l q2351) q2353 (wA_l qs30) q85 q2354 hy_119 ⟨Nat.le_of_ble_eq_true rfl, Nat.le_of_ble_eq_true rfl⟩ rfl rfl (Nat.le_of_ble_eq_true rfl) dX3_why_23 rfl (kS ?_) kN
      obtain ⟨rfl, rfl⟩ := ret_of e
      exact v_iret hc_X3_why rfl dX3_why_26 rfl rfl
    · refine v_aload_n (pc' := 28) hc_X3_why dX3_why_27 rfl rfl 0 rfl ?_
      refine v_iload_n (pc' := 29) hc_X3_why dX3_why_28 rfl rfl 1 rfl ?_
      refine v_iload_n (pc' := 30) hc_X3_why dX3_why_29 rfl rfl 2 rfl ?_
      obtain ⟨c18, e⟩ := gd_of e
      obtain ⟨r19, h20, e21, e⟩ := bd2_of e
      refine k_V (pc' := 33) (ci := 2) (n := 2) hc_X3_why ho_X3_why rfl c18 (w_X3_reasonFor D l hl x0 x1 x2 h12 e21) (wA_l q2498) q2500 (wA_l qs54) q85 q2501 hy_195 ⟨Nat.le_of_ble_eq_true rfl, Nat.le_of_ble_eq_true rfl⟩ rfl rfl (Nat.le_of_ble_eq_true rfl) dX3_why_30 rfl (kS ?_) kN
      refine v_istore (pc' := 35) (lv' := [(4, .int r19), (0, .ref x0), (1, .int x1), (2, .int x2), (3, .int x3)]) hc_X3_why dX3_why_33 rfl (Nat.le_of_ble_eq_true rfl) rfl ?_
      refine v_iload (pc' := 37) hc_X3_why dX3_why_35 rfl 0 rfl ?_
      refine v_if_eq (pt := 44) (pf := 40) hc_X3_why dX3_why_37 rfl rfl e (fun _ e => ?_) (fun _ e => ?_)
      · refine v_iload (pc' := 46) hc_X3_why dX3_why_44 rfl 0 rfl ?_
        refine v_goto (pt := 53) hc_X3_why dX3_why_46 rfl ?_
        obtain ⟨rfl, rfl⟩ := ret_of e
        exact v_iret hc_X3_why rfl dX3_why_53 rfl rfl
      · refine v_iload_n (pc' := 41) hc_X3_why dX3_why_40 rfl rfl 4 rfl ?_
        refine v_if_ne (pt := 49) (pf := 44) hc_X3_why dX3_why_41 rfl rfl e (fun _ e => ?_) (fun _ e => ?_)
        · refine v_iload (pc' := 46) hc_X3_why dX3_why_44 rfl 0 rfl ?_
          refine v_goto (pt := 53) hc_X3_why dX3_why_46 rfl ?_
          obtain ⟨rfl, rfl⟩ := ret_of e
          exact v_iret hc_X3_why rfl dX3_why_53 rfl rfl
        · refine v_aload_n (pc' := 50) hc_X3_why dX3_why_49 rfl rfl 1 rfl ?_
          refine v_gfI (pc' := 53) hc_X3_why ho_X3_why KX3 18 (Nat.le_of_ble_eq_true rfl) q2260 (Or.inl rfl) dX3_why_50 rfl e (fun v22 _ e => ?_)
          obtain ⟨rfl, rfl⟩ := ret_of e
          exact v_iret hc_X3_why rfl dX3_why_53 rfl rfl
theorem w_X3_why (D : va_G) (l : Launch) (hl : l.stackTraces = false) (x0 : Nat) (x1 : Int32) (x2 : Int32) (x3 : Int32) (h : AH) {r : Int32} {hF : AH} (e : f_X3_why x0 x1 x2 x3 h = some (r, hF)) : MetV D l yX3_why (Cond.code yX3_why cX3_why 5 (Option.some .int)) 7 187 [.ref x0, .int x1, .int x2, .int x3] h hF (oI r) :=
  met_ofF (by decide +kernel) hl (Nat.le_of_ble_eq_true rfl) rfl (v_X3_why D l hl [.ref x0, .int x1, .int x2, .int x3] h x0 x1 x2 x3 h e)
/-! BlockPapersModel.strips(I)I  -/
abbrev G_X3_strips (D : va_G) (l : Launch) (as : List Value) (h0 hF : AH) (o : Out) : CT := (D, l, (yX3_strips.cls, yX3_strips, cX3_strips, 3, (Option.some .int), 2, 70, []), as, h0, hF, o)
theorem hc_X3_strips {D : va_G} {l : Launch} {as : List Value} {h0 hF : AH} {o : Out} : gC (G_X3_strips D l as h0 hF o) = cX3_strips := rfl
theorem ho_X3_strips {D : va_G} {l : Launch} {as : List Value} {h0 hF : AH} {o : Out} : gO (G_X3_strips D l as h0 hF o) = "BlockPapersModel" := rfl
theorem hp_X3_strips {D : va_G} {l : Launch} {as : List Value} {h0 hF : AH} {o : Out} (pc : Nat) : ∀ z ∈ tableOf (gHd (G_X3_strips D l as h0 hF o)), covers z pc = false := hpN
def f_X3_strips (x0 : Nat) (x1 : Int32) (h : AH) : Option (Int32 × AH) :=
  gd (isC h 2 x0) <|
  bd2 (f_X3_roomRow x0 x1 (2 : Int32) h) fun r2 h3 =>
  if r2 = 0 then (
    gd (isC h3 2 x0) <|
    bd2 (f_X3_refused x0 (10 : Int32) (0 : Int32) h3) fun r6 h7 =>
    some (r6, h7)
  ) else (
    bd (gtR h3 2 x0 1) fun v9 =>
    bd (ldI h3 0 v9 (((223 : Int32) + ((5 : Int32) * x1)) + (2 : Int32))) fun v10 =>
    bd (stI h3 v9 (((223 : Int32) + ((5 : Int32) * x1)) + (2 : Int32)) (v10 - (1 : Int32))) fun h11 =>
    bd (gtR h11 2 x0 1) fun v12 =>
    bd (ldI h11 0 v12 (((223 : Int32) + ((5 : Int32) * x1)) + (4 : Int32))) fun v13 =>
    bd (stI h11 v12 (((223 : Int32) + ((5 : Int32) * x1)) + (4 : Int32)) (v13 + (1 : Int32))) fun h14 =>
    bd (gtR h14 2 x0 1) fun v15 =>
    bd (ldI h14 0 v15 (6 : Int32)) fun v16 =>
    gd (isC h14 2 x0) <|
    bd2 (f_X3_roomRow x0 x1 (0 : Int32) h14) fun r18 h19 =>
    bd (stI h19 v15 (6 : Int32) (v16 + r18)) fun h21 =>
    bd (gtR h21 2 x0 1) fun v22 =>
    bd2 (f_X3_dropAt x1 (r2 - (1 : Int32)) h21) fun r23 h24 =>
    bd (ldI h24 0 v22 r23) fun v26 =>
    gd (isC h24 2 x0) <|
    bd2 (f_X3_done x0 v26 h24) fun r28 h29 =>
    some (r28, h29)
  )
theorem v_X3_strips (D : va_G) (l : Launch) (hl : l.stackTraces = false) (as : List Value) (h0 : AH) {r : Int32} {hF : AH} (x0 : Nat) (x1 : Int32) (h : AH) (e : f_X3_strips x0 x1 h = some (r, hF)) : V (G_X3_strips D l as h0 hF (oI r)) h 0 [(0, .ref x0), (1, .int x1)] [] := by
  unfold f_X3_strips at e
  refine v_aload_n (pc' := 1) hc_X3_strips dX3_strips_0 rfl rfl 0 rfl ?_
  refine v_iload_n (pc' := 2) hc_X3_strips dX3_strips_1 rfl rfl 1 rfl ?_
  refine v_iconst (pc' := 3) (v := 2) hc_X3_strips dX3_strips_2 rfl rfl ?_
  obtain ⟨c1, e⟩ := gd_of e
  obtain ⟨r2, h3, e4, e⟩ := bd2_of e
  refine k_V (pc' := 6) (ci := 2) (n := 2) hc_X3_strips ho_X3_strips rfl c1 (w_X3_roomRow D l hl x0 x1 (2 : Int32) h e4) (wA_l q2435) q2437 (wA_l qs44) q85 q2438 hy_168 ⟨Nat.le_of_ble_eq_true rfl, Nat.le_of_ble_eq_true rfl⟩ rfl rfl (Nat.le_of_ble_eq_true rfl) dX3_strips_3 rfl (kS ?_) kN
  refine v_istore_n (pc' := 7) (lv' := [(2, .int r2), (0, .ref x0), (1, .int x1)]) hc_X3_strips dX3_strips_6 rfl rfl (Nat.le_of_ble_eq_true rfl) rfl ?_
  refine v_iload_n (pc' := 8) hc_X3_strips dX3_strips_7 rfl rfl 0 rfl ?_
  refine v_if_ne (pt := 19) (pf := 11) hc_X3_strips dX3_strips_8 rfl rfl e (fun _ e => ?_) (fun _ e => ?_)
  · refine v_aload_n (pc' := 12) hc_X3_strips dX3_strips_11 rfl rfl 1 rfl ?_
    refine v_bipush (pc' := 14) (v := 10) hc_X3_strips dX3_strips_12 rfl rfl ?_
    refine v_iconst (pc' := 15) (v := 0) hc_X3_strips dX3_strips_14 rfl rfl ?_
    obtain ⟨c5, e⟩ := gd_of e
    obtain ⟨r6, h7, e8, e⟩ := bd2_of e
    refine k_V (pc' := 18) (ci := 2) (n := 2) hc_X3_strips ho_X3_strips rfl c5 (w_X3_refused D l hl x0 (10 : Int32) (0 : Int32) h3 e8) (wA_l q2335) q2337 (wA_l qs26) q85 q2338 hy_120 ⟨Nat.le_of_ble_eq_true rfl, Nat.le_of_ble_eq_true rfl⟩ rfl rfl (Nat.le_of_ble_eq_true rfl) dX3_strips_15 rfl (kS ?_) kN
    obtain ⟨rfl, rfl⟩ := ret_of e
    exact v_iret hc_X3_strips rfl dX3_strips_18 rfl rfl
  · refine v_aload_n (pc' := 20) hc_X3_strips dX3_strips_19 rfl rfl 1 rfl ?_
    refine v_gfR (pc' := 23) hc_X3_strips ho_X3_strips KX3 1 (Nat.le_of_ble_eq_true rfl) q2243 (Or.inl rfl) dX3_strips_20 rfl e (fun v9 _ e => ?_)
    refine v_sipush (pc' := 26) (v := 223) hc_X3_strips dX3_strips_23 rfl rfl ?_
    refine v_iconst (pc' := 27) (v := 5) hc_X3_strips dX3_strips_26 rfl rfl ?_
    refine v_iload_n (pc' := 28) hc_X3_strips dX3_strips_27 rfl rfl 2 rfl ?_
    refine v_imul (pc' := 29) hc_X3_strips dX3_strips_28 rfl ?_
    refine v_iadd (pc' := 30) hc_X3_strips dX3_strips_29 rfl ?_
    refine v_iconst (pc' := 31) (v := 2) hc_X3_strips dX3_strips_30 rfl rfl ?_
    refine v_iadd (pc' := 32) hc_X3_strips dX3_strips_31 rfl ?_
    refine v_dup2 (pc' := 33) hc_X3_strips dX3_strips_32 rfl rfl rfl ?_
    refine v_iald (pc' := 34) hc_X3_strips dX3_strips_33 rfl e (fun v10 _ e => ?_)
    refine v_iconst (pc' := 35) (v := 1) hc_X3_strips dX3_strips_34 rfl rfl ?_
    refine v_isub (pc' := 36) hc_X3_strips dX3_strips_35 rfl ?_
    refine v_iast (pc' := 37) hc_X3_strips dX3_strips_36 rfl e (fun h11 _ e => ?_)
    refine v_aload_n (pc' := 38) hc_X3_strips dX3_strips_37 rfl rfl 1 rfl ?_
    refine v_gfR (pc' := 41) hc_X3_strips ho_X3_strips KX3 1 (Nat.le_of_ble_eq_true rfl) q2243 (Or.inl rfl) dX3_strips_38 rfl e (fun v12 _ e => ?_)
    refine v_sipush (pc' := 44) (v := 223) hc_X3_strips dX3_strips_41 rfl rfl ?_
    refine v_iconst (pc' := 45) (v := 5) hc_X3_strips dX3_strips_44 rfl rfl ?_
    refine v_iload_n (pc' := 46) hc_X3_strips dX3_strips_45 rfl rfl 2 rfl ?_
    refine v_imul (pc' := 47) hc_X3_strips dX3_strips_46 rfl ?_
    refine v_iadd (pc' := 48) hc_X3_strips dX3_strips_47 rfl ?_
    refine v_iconst (pc' := 49) (v := 4) hc_X3_strips dX3_strips_48 rfl rfl ?_
    refine v_iadd (pc' := 50) hc_X3_strips dX3_strips_49 rfl ?_
    refine v_dup2 (pc' := 51) hc_X3_strips dX3_strips_50 rfl rfl rfl ?_
    refine v_iald (pc' := 52) hc_X3_strips dX3_strips_51 rfl e (fun v13 _ e => ?_)
    refine v_iconst (pc' := 53) (v := 1) hc_X3_strips dX3_strips_52 rfl rfl ?_
    refine v_iadd (pc' := 54) hc_X3_strips dX3_strips_53 rfl ?_
    refine v_iast (pc' := 55) hc_X3_strips dX3_strips_54 rfl e (fun h14 _ e => ?_)
    refine v_aload_n (pc' := 56) hc_X3_strips dX3_strips_55 rfl rfl 1 rfl ?_
    refine v_gfR (pc' := 59) hc_X3_strips ho_X3_strips KX3 1 (Nat.le_of_ble_eq_true rfl) q2243 (Or.inl rfl) dX3_strips_56 rfl e (fun v15 _ e => ?_)
    refine v_bipush (pc' := 61) (v := 6) hc_X3_strips dX3_strips_59 rfl rfl ?_
    refine v_dup2 (pc' := 62) hc_X3_strips dX3_strips_61 rfl rfl rfl ?_
    refine v_iald (pc' := 63) hc_X3_strips dX3_strips_62 rfl e (fun v16 _ e => ?_)
    refine v_aload_n (pc' := 64) hc_X3_strips dX3_strips_63 rfl rfl 1 rfl ?_
    refine v_iload_n (pc' := 65) hc_X3_strips dX3_strips_64 rfl rfl 2 rfl ?_
    refine v_iconst (pc' := 66) (v := 0) hc_X3_strips dX3_strips_65 rfl rfl ?_
    obtain ⟨c17, e⟩ := gd_of e
    obtain ⟨r18, h19, e20, e⟩ := bd2_of e
    refine k_V (pc' := 69) (ci := 2) (n := 2) hc_X3_strips ho_X3_strips rfl c17 (w_X3_roomRow D l hl x0 x1 (0 : Int32) h14 e20) (wA_l q2435) q2437 (wA_l qs44) q85 q2438 hy_168 ⟨Nat.le_of_ble_eq_true rfl, Nat.le_of_ble_eq_true rfl⟩ rfl rfl (Nat.le_of_ble_eq_true rfl) dX3_strips_66 rfl (kS ?_) kN
    refine v_iadd (pc' := 70) hc_X3_strips dX3_strips_69 rfl ?_
    refine v_iast (pc' := 71) hc_X3_strips dX3_strips_70 rfl e (fun h21 _ e => ?_)
    refine v_aload_n (pc' := 72) hc_X3_strips dX3_strips_71 rfl rfl 1 rfl ?_
    refine v_aload_n (pc' := 73) hc_X3_strips dX3_strips_72 rfl rfl 1 rfl ?_
    refine v_gfR (pc' := 76) hc_X3_strips ho_X3_strips KX3 1 (Nat.le_of_ble_eq_true rfl) q2243 (Or.inl rfl) dX3_strips_73 rfl e (fun v22 _ e => ?_)
    refine v_iload_n (pc' := 77) hc_X3_strips dX3_strips_76 rfl rfl 2 rfl ?_
    refine v_iload_n (pc' := 78) hc_X3_strips dX3_strips_77 rfl rfl 0 rfl ?_
    refine v_iconst (pc' := 79) (v := 1) hc_X3_strips dX3_strips_78 rfl rfl ?_
    refine v_isub (pc' := 80) hc_X3_strips dX3_strips_79 rfl ?_
    obtain ⟨r23, h24, e25, e⟩ := bd2_of e
    refine k_S (pc' := 83) (n := 2) hc_X3_strips ho_X3_strips (w_X3_dropAt D l hl x1 (r2 - (1 : Int32)) h21 e25) (wA_l q2439) q2440 q85 q2441 hy_169 ⟨Nat.le_of_ble_eq_true rfl, Nat.le_of_ble_eq_true rfl⟩ rfl rfl (Nat.le_of_ble_eq_true rfl) dX3_strips_80 rfl (kS ?_) kN
    refine v_iald (pc' := 84) hc_X3_strips dX3_strips_83 rfl e (fun v26 _ e => ?_)
    obtain ⟨c27, e⟩ := gd_of e
    obtain ⟨r28, h29, e30, e⟩ := bd2_of e
    refine k_V (pc' := 87) (ci := 2) (n := 1) hc_X3_strips ho_X3_strips rfl c27 (w_X3_done D l hl x0 v26 h24 e30) (wA_l q2339) q2341 (wA_l qs27) q85 q2342 hy_121 ⟨Nat.le_of_ble_eq_true rfl, Nat.le_of_ble_eq_true rfl⟩ rfl rfl (Nat.le_of_ble_eq_true rfl) dX3_strips_84 rfl (kS ?_) kN
    obtain ⟨rfl, rfl⟩ := ret_of e
    exact v_iret hc_X3_strips rfl dX3_strips_87 rfl rfl
theorem w_X3_strips (D : va_G) (l : Launch) (hl : l.stackTraces = false) (x0 : Nat) (x1 : Int32) (h : AH) {r : Int32} {hF : AH} (e : f_X3_strips x0 x1 h = some (r, hF)) : MetV D l yX3_strips (Cond.code yX3_strips cX3_strips 3 (Option.some .int)) 2 70 [.ref x0, .int x1] h hF (oI r) :=
  met_ofF (by decide +kernel) hl (Nat.le_of_ble_eq_true rfl) rfl (v_X3_strips D l hl [.ref x0, .int x1] h x0 x1 h e)
/-! BlockPapersModel.strip(I)I  -/
abbrev G_X3_strip (D : va_G) (l : Launch) (as : List Value) (h0 hF : AH) (o : Out) : CT := (D, l, (yX3_strip.cls, yX3_strip, cX3_strip, 2, (Option.some .int), 3, 92, []), as, h0, hF, o)
theorem hc_X3_strip {D : va_G} {l : Launch} {as : List Value} {h0 hF : AH} {o : Out} : gC (G_X3_strip D l as h0 hF o) = cX3_strip := rfl
theorem ho_X3_strip {D : va_G} {l : Launch} {as : List Value} {h0 hF : AH} {o : Out} : gO (G_X3_strip D l as h0 hF o) = "BlockPapersModel" := rfl
theorem hp_X3_strip {D : va_G} {l : Launch} {as : List Value} {h0 hF : AH} {o : Out} (pc : Nat) : ∀ z ∈ tableOf (gHd (G_X3_strip D l as h0 hF o)), covers z pc = false := hpN
def f_X3_strip (x0 : Nat) (x1 : Int32) (h : AH) : Option (Int32 × AH) :=
  bd (stF h 2 x0 0 (.int (0 : Int32))) fun h1 =>
  gd (isC h1 2 x0) <|
  bd2 (f_X3_remembers x0 h1) fun r3 h4 =>
  gd (isC h4 2 x0) <|
  bd2 (f_X3_isRoom x0 x1 h4) fun r7 h8 =>
  if r7 = 0 then (
    gd (isC h8 2 x0) <|
    bd2 (f_X3_fails x0 (1 : Int32) h8) fun r11 h12 =>
    some (r11, h12)
  ) else (
    gd (isC h8 2 x0) <|
    bd2 (f_X3_strips x0 x1 h8) fun r15 h16 =>
    gd (isC h16 2 x0) <|
    bd2 (f_X3_ends x0 r15 (2 : Int32) h16) fun r19 h20 =>
    some (r19, h20)
  )
theorem v_X3_strip (D : va_G) (l : Launch) (hl : l.stackTraces = false) (as : List Value) (h0 : AH) {r : Int32} {hF : AH} (x0 : Nat) (x1 : Int32) (h : AH) (e : f_X3_strip x0 x1 h = some (r, hF)) : V (G_X3_strip D l as h0 hF (oI r)) h 0 [(0, .ref x0), (1, .int x1)] [] := by
  unfold f_X3_strip at e
  refine v_aload_n (pc' := 1) hc_X3_strip dX3_strip_0 rfl rfl 0 rfl ?_
  refine v_iconst (pc' := 2) (v := 0) hc_X3_strip dX3_strip_1 rfl rfl ?_
  refine v_pf (pc' := 5) hc_X3_strip ho_X3_strip KX3 0 (Nat.le_of_ble_eq_true rfl) q2242 (Or.inl rfl) rfl dX3_strip_2 rfl rfl rfl e (fun h1 _ e => ?_)
  refine v_aload_n (pc' := 6) hc_X3_strip dX3_strip_5 rfl rfl 0 rfl ?_
  obtain ⟨c2, e⟩ := gd_of e
  obtain ⟨r3, h4, e5, e⟩ := bd2_of e
  refine k_V (pc' := 9) (ci := 2) (n := 0) hc_X3_strip ho_X3_strip rfl c2 (w_X3_remembers D l hl x0 h1 e5) (wA_l q2324) q2326 (wA_l qs24) q85 q2327 hy_117 ⟨Nat.le_of_ble_eq_true rfl, Nat.le_of_ble_eq_true rfl⟩ rfl rfl (Nat.le_of_ble_eq_true rfl) dX3_strip_6 rfl (kU ?_) kN
  refine v_aload_n (pc' := 10) hc_X3_strip dX3_strip_9 rfl rfl 0 rfl ?_
  refine v_iload_n (pc' := 11) hc_X3_strip dX3_strip_10 rfl rfl 1 rfl ?_
  obtain ⟨c6, e⟩ := gd_of e
  obtain ⟨r7, h8, e9, e⟩ := bd2_of e
  refine k_V (pc' := 14) (ci := 2) (n := 1) hc_X3_strip ho_X3_strip rfl c6 (w_X3_isRoom D l hl x0 x1 h4 e9) (wA_l q2470) q2472 (wA_l qs49) q85 q2473 hy_184 ⟨Nat.le_of_ble_eq_true rfl, Nat.le_of_ble_eq_true rfl⟩ rfl rfl (Nat.le_of_ble_eq_true rfl) dX3_strip_11 rfl (kS ?_) kN
  refine v_if_eq (pt := 30) (pf := 17) hc_X3_strip dX3_strip_14 rfl rfl e (fun _ e => ?_) (fun _ e => ?_)
  · refine v_aload_n (pc' := 31) hc_X3_strip dX3_strip_30 rfl rfl 0 rfl ?_
    refine v_iconst (pc' := 32) (v := 1) hc_X3_strip dX3_strip_31 rfl rfl ?_
    obtain ⟨c10, e⟩ := gd_of e
    obtain ⟨r11, h12, e13, e⟩ := bd2_of e
    refine k_V (pc' := 35) (ci := 2) (n := 1) hc_X3_strip ho_X3_strip rfl c10 (w_X3_fails D l hl x0 (1 : Int32) h8 e13) (wA_l q2351) q2353 (wA_l qs30) q85 q2354 hy_119 ⟨Nat.le_of_ble_eq_true rfl, Nat.le_of_ble_eq_true rfl⟩ rfl rfl (Nat.le_of_ble_eq_true rfl) dX3_strip_32 rfl (kS ?_) kN
    obtain ⟨rfl, rfl⟩ := ret_of e
    exact v_iret hc_X3_strip rfl dX3_strip_35 rfl rfl
  · refine v_aload_n (pc' := 18) hc_X3_strip dX3_strip_17 rfl rfl 0 rfl ?_
    refine v_aload_n (pc' := 19) hc_X3_strip dX3_strip_18 rfl rfl 0 rfl ?_
    refine v_iload_n (pc' := 20) hc_X3_strip dX3_strip_19 rfl rfl 1 rfl ?_
    obtain ⟨c14, e⟩ := gd_of e
    obtain ⟨r15, h16, e17, e⟩ := bd2_of e
    refine k_V (pc' := 23) (ci := 2) (n := 1) hc_X3_strip ho_X3_strip rfl c14 (w_X3_strips D l hl x0 x1 h8 e17) (wA_l q2514) q2516 (wA_l qs56) q85 q2517 hy_203 ⟨Nat.le_of_ble_eq_true rfl, Nat.le_of_ble_eq_true rfl⟩ rfl rfl (Nat.le_of_ble_eq_true rfl) dX3_strip_20 rfl (kS ?_) kN
    refine v_iconst (pc' := 24) (v := 2) hc_X3_strip dX3_strip_23 rfl rfl ?_
    obtain ⟨c18, e⟩ := gd_of e
    obtain ⟨r19, h20, e21, e⟩ := bd2_of e
    refine k_V (pc' := 27) (ci := 2) (n := 2) hc_X3_strip ho_X3_strip rfl c18 (w_X3_ends D l hl x0 r15 (2 : Int32) h16 e21) (wA_l q2343) q2345 (wA_l qs28) q85 q2346 hy_124 ⟨Nat.le_of_ble_eq_true rfl, Nat.le_of_ble_eq_true rfl⟩ rfl rfl (Nat.le_of_ble_eq_true rfl) dX3_strip_24 rfl (kS ?_) kN
    refine v_goto (pt := 35) hc_X3_strip dX3_strip_27 rfl ?_
    obtain ⟨rfl, rfl⟩ := ret_of e
    exact v_iret hc_X3_strip rfl dX3_strip_35 rfl rfl
theorem w_X3_strip (D : va_G) (l : Launch) (hl : l.stackTraces = false) (x0 : Nat) (x1 : Int32) (h : AH) {r : Int32} {hF : AH} (e : f_X3_strip x0 x1 h = some (r, hF)) : MetV D l yX3_strip (Cond.code yX3_strip cX3_strip 2 (Option.some .int)) 3 92 [.ref x0, .int x1] h hF (oI r) :=
  met_ofF (by decide +kernel) hl (Nat.le_of_ble_eq_true rfl) rfl (v_X3_strip D l hl [.ref x0, .int x1] h x0 x1 h e)
/-! BlockPapersModel.isMatched(I)Z  -/
abbrev G_X3_isMatched (D : va_G) (l : Launch) (as : List Value) (h0 hF : AH) (o : Out) : CT := (D, l, (yX3_isMatched.cls, yX3_isMatched, cX3_isMatched, 4, (Option.some .boolean), 4, 115, []), as, h0, hF, o)
theorem hc_X3_isMatched {D : va_G} {l : Launch} {as : List Value} {h0 hF : AH} {o : Out} : gC (G_X3_isMatched D l as h0 hF o) = cX3_isMatched := rfl
theorem ho_X3_isMatched {D : va_G} {l : Launch} {as : List Value} {h0 hF : AH} {o : Out} : gO (G_X3_isMatched D l as h0 hF o) = "BlockPapersModel" := rfl
theorem hp_X3_isMatched {D : va_G} {l : Launch} {as : List Value} {h0 hF : AH} {o : Out} (pc : Nat) : ∀ z ∈ tableOf (gHd (G_X3_isMatched D l as h0 hF o)), covers z pc = false := hpN
def fb_X3_isMatched_l30 (rec : Nat → Int32 → Int32 → Int32 → AH → Option (Int32 × AH)) (x0 : Nat) (x1 : Int32) (x2 : Int32) (x3 : Int32) (h : AH) : Option (Int32 × AH) :=
  gd (isC h 2 x0) <|
  bd2 (f_X3_roomRow x0 x1 (2 : Int32) h) fun r2 h3 =>
  if r2 ≤ x3 then (
    gd (nrw .boolean x2) <|
    some (x2, h3)
  ) else (
    bd (gtR h3 2 x0 1) fun v6 =>
    bd2 (f_X3_dropAt x1 x3 h3) fun r7 h8 =>
    bd (ldI h8 0 v6 (r7 + (1 : Int32))) fun v10 =>
    gd (isC h8 2 x0) <|
    bd2 (f_X3_mustBegin x0 x1 x3 h8) fun r12 h13 =>
    if v10 = r12 then (
      rec x0 x1 (x2 &&& (1 : Int32)) (x3 + 1) h13
    ) else (
      rec x0 x1 (x2 &&& (0 : Int32)) (x3 + 1) h13
    )
  )
def f_X3_isMatched_l30 : Nat → Nat → Int32 → Int32 → Int32 → AH → Option (Int32 × AH)
  | 0 => fun _ _ _ _ _ => none
  | n + 1 => fb_X3_isMatched_l30 (f_X3_isMatched_l30 n) 
theorem w_X3_isMatched_l30 (D : va_G) (l : Launch) (hl : l.stackTraces = false) (as : List Value) (h0 : AH) {r : Int32} {hF : AH} : ∀ (n : Nat) (x0 : Nat) (x1 : Int32) (x2 : Int32) (x3 : Int32) (h : AH), f_X3_isMatched_l30 n x0 x1 x2 x3 h = some (r, hF) → V (G_X3_isMatched D l as h0 hF (oI r)) h 30 [(0, .ref x0), (1, .int x1), (2, .int x2), (3, .int x3)] [] := by
  intro n; induction n with
  | zero => intro x0 x1 x2 x3 h e; exact absurd (show (none : Option (Int32 × AH)) = some _ from e) (fun z => nomatch z)
  | succ n IH =>
    intro x0 x1 x2 x3 h e
    have e : fb_X3_isMatched_l30 (f_X3_isMatched_l30 n) x0 x1 x2 x3 h = some (r, hF) := e
    unfold fb_X3_isMatched_l30 at e
    refine v_iload_n (pc' := 31) hc_X3_isMatched dX3_isMatched_30 rfl rfl 3 rfl ?_
    refine v_aload_n (pc' := 32) hc_X3_isMatched dX3_isMatched_31 rfl rfl 0 rfl ?_
    refine v_iload_n (pc' := 33) hc_X3_isMatched dX3_isMatched_32 rfl rfl 1 rfl ?_
    refine v_iconst (pc' := 34) (v := 2) hc_X3_isMatched dX3_isMatched_33 rfl rfl ?_
    obtain ⟨c1, e⟩ := gd_of e
    obtain ⟨r2, h3, e4, e⟩ := bd2_of e
    refine k_V (pc' := 37) (ci := 2) (n := 2) hc_X3_isMatched ho_X3_isMatched rfl c1 (w_X3_roomRow D l hl x0 x1 (2 : Int32) h e4) (wA_l q2435) q2437 (wA_l qs44) q85 q2438 hy_168 ⟨Nat.le_of_ble_eq_true rfl, Nat.le_of_ble_eq_true rfl⟩ rfl rfl (Nat.le_of_ble_eq_true rfl) dX3_isMatched_34 rfl (kS ?_) kN
    refine v_icmp_ge (pt := 75) (pf := 40) hc_X3_isMatched dX3_isMatched_37 rfl rfl e (fun _ e => ?_) (fun _ e => ?_)
    · refine v_iload_n (pc' := 76) hc_X3_isMatched dX3_isMatched_75 rfl rfl 2 rfl ?_
      obtain ⟨c5, e⟩ := gd_of e
      obtain ⟨rfl, rfl⟩ := ret_of e
      exact v_zret hc_X3_isMatched rfl (nrw_of c5) dX3_isMatched_76 rfl rfl
    · refine v_iload_n (pc' := 41) hc_X3_isMatched dX3_isMatched_40 rfl rfl 2 rfl ?_
      refine v_aload_n (pc' := 42) hc_X3_isMatched dX3_isMatched_41 rfl rfl 0 rfl ?_
      refine v_gfR (pc' := 45) hc_X3_isMatched ho_X3_isMatched KX3 1 (Nat.le_of_ble_eq_true rfl) q2243 (Or.inl rfl) dX3_isMatched_42 rfl e (fun v6 _ e => ?_)
      refine v_iload_n (pc' := 46) hc_X3_isMatched dX3_isMatched_45 rfl rfl 1 rfl ?_
      refine v_iload_n (pc' := 47) hc_X3_isMatched dX3_isMatched_46 rfl rfl 3 rfl ?_
      obtain ⟨r7, h8, e9, e⟩ := bd2_of e
      refine k_S (pc' := 50) (n := 2) hc_X3_isMatched ho_X3_isMatched (w_X3_dropAt D l hl x1 x3 h3 e9) (wA_l q2439) q2440 q85 q2441 hy_169 ⟨Nat.le_of_ble_eq_true rfl, Nat.le_of_ble_eq_true rfl⟩ rfl rfl (Nat.le_of_ble_eq_true rfl) dX3_isMatched_47 rfl (kS ?_) kN
      refine v_iconst (pc' := 51) (v := 1) hc_X3_isMatched dX3_isMatched_50 rfl rfl ?_
      refine v_iadd (pc' := 52) hc_X3_isMatched dX3_isMatched_51 rfl ?_
      refine v_iald (pc' := 53) hc_X3_isMatched dX3_isMatched_52 rfl e (fun v10 _ e => ?_)
      refine v_aload_n (pc' := 54) hc_X3_isMatched dX3_isMatched_53 rfl rfl 0 rfl ?_
      refine v_iload_n (pc' := 55) hc_X3_isMatched dX3_isMatched_54 rfl rfl 1 rfl ?_
      refine v_iload_n (pc' := 56) hc_X3_isMatched dX3_isMatched_55 rfl rfl 3 rfl ?_
      obtain ⟨c11, e⟩ := gd_of e
      obtain ⟨r12, h13, e14, e⟩ := bd2_of e
      refine k_V (pc' := 59) (ci := 2) (n := 2) hc_X3_isMatched ho_X3_isMatched rfl c11 (w_X3_mustBegin D l hl x0 x1 x3 h8 e14) (wA_l q2482) q2484 (wA_l qs52) q85 q2485 hy_186 ⟨Nat.le_of_ble_eq_true rfl, Nat.le_of_ble_eq_true rfl⟩ rfl rfl (Nat.le_of_ble_eq_true rfl) dX3_isMatched_56 rfl (kS ?_) kN
      refine v_icmp_ne (pt := 66) (pf := 62) hc_X3_isMatched dX3_isMatched_59 rfl rfl e (fun _ e => ?_) (fun _ e => ?_)
      · refine v_iconst (pc' := 63) (v := 1) hc_X3_isMatched dX3_isMatched_62 rfl rfl ?_
        refine v_goto (pt := 67) hc_X3_isMatched dX3_isMatched_63 rfl ?_
        refine v_iand (pc' := 68) hc_X3_isMatched dX3_isMatched_67 rfl ?_
        refine v_istore_n (pc' := 69) (lv' := [(2, .int (x2 &&& (1 : Int32))), (0, .ref x0), (1, .int x1), (3, .int x3)]) hc_X3_isMatched dX3_isMatched_68 rfl rfl (Nat.le_of_ble_eq_true rfl) rfl ?_
        refine v_iinc (pc' := 72) (lv' := [(3, .int (x3 + 1)), (2, .int (x2 &&& (1 : Int32))), (0, .ref x0), (1, .int x1)]) (v := x3 + 1) hc_X3_isMatched dX3_isMatched_69 rfl 3 rfl rfl (Nat.le_of_ble_eq_true rfl) rfl ?_
        refine v_goto (pt := 30) hc_X3_isMatched dX3_isMatched_72 rfl ?_
        refine v_pick [2, 3, 1, 0] rfl ?_
        exact IH x0 x1 (x2 &&& (1 : Int32)) (x3 + 1) h13 e
      · refine v_iconst (pc' := 67) (v := 0) hc_X3_isMatched dX3_isMatched_66 rfl rfl ?_
        refine v_iand (pc' := 68) hc_X3_isMatched dX3_isMatched_67 rfl ?_
        refine v_istore_n (pc' := 69) (lv' := [(2, .int (x2 &&& (0 : Int32))), (0, .ref x0), (1, .int x1), (3, .int x3)]) hc_X3_isMatched dX3_isMatched_68 rfl rfl (Nat.le_of_ble_eq_true rfl) rfl ?_
        refine v_iinc (pc' := 72) (lv' := [(3, .int (x3 + 1)), (2, .int (x2 &&& (0 : Int32))), (0, .ref x0), (1, .int x1)]) (v := x3 + 1) hc_X3_isMatched dX3_isMatched_69 rfl 3 rfl rfl (Nat.le_of_ble_eq_true rfl) rfl ?_
        refine v_goto (pt := 30) hc_X3_isMatched dX3_isMatched_72 rfl ?_
        refine v_pick [2, 3, 1, 0] rfl ?_
        exact IH x0 x1 (x2 &&& (0 : Int32)) (x3 + 1) h13 e
def f_X3_isMatched_j14 (x0 : Nat) (x1 : Int32) (s0 : Nat) (s1 : Int32) (h : AH) : Option (Int32 × AH) :=
  bd (stF h 2 s0 0 (.int s1)) fun h1 =>
  bd (gtI h1 2 x0 0) fun v2 =>
  if v2 ≤ 0 then (
    f_X3_isMatched_l30 NN x0 x1 (1 : Int32) (0 : Int32) h1
  ) else (
    some ((0 : Int32), h1)
  )
theorem w_X3_isMatched_j14 (D : va_G) (l : Launch) (hl : l.stackTraces = false) (as : List Value) (h0 : AH) {r : Int32} {hF : AH} (x0 : Nat) (x1 : Int32) (s0 : Nat) (s1 : Int32) (h : AH) (e : f_X3_isMatched_j14 x0 x1 s0 s1 h = some (r, hF)) : V (G_X3_isMatched D l as h0 hF (oI r)) h 14 [(0, .ref x0), (1, .int x1)] [.int s1, .ref s0] := by
  unfold f_X3_isMatched_j14 at e
  refine v_pf (pc' := 17) hc_X3_isMatched ho_X3_isMatched KX3 0 (Nat.le_of_ble_eq_true rfl) q2242 (Or.inl rfl) rfl dX3_isMatched_14 rfl rfl rfl e (fun h1 _ e => ?_)
  refine v_aload_n (pc' := 18) hc_X3_isMatched dX3_isMatched_17 rfl rfl 0 rfl ?_
  refine v_gfI (pc' := 21) hc_X3_isMatched ho_X3_isMatched KX3 0 (Nat.le_of_ble_eq_true rfl) q2242 (Or.inl rfl) dX3_isMatched_18 rfl e (fun v2 _ e => ?_)
  refine v_if_le (pt := 26) (pf := 24) hc_X3_isMatched dX3_isMatched_21 rfl rfl e (fun _ e => ?_) (fun _ e => ?_)
  · refine v_iconst (pc' := 27) (v := 1) hc_X3_isMatched dX3_isMatched_26 rfl rfl ?_
    refine v_istore_n (pc' := 28) (lv' := [(2, .int (1 : Int32)), (0, .ref x0), (1, .int x1)]) hc_X3_isMatched dX3_isMatched_27 rfl rfl (Nat.le_of_ble_eq_true rfl) rfl ?_
    refine v_iconst (pc' := 29) (v := 0) hc_X3_isMatched dX3_isMatched_28 rfl rfl ?_
    refine v_istore_n (pc' := 30) (lv' := [(3, .int (0 : Int32)), (2, .int (1 : Int32)), (0, .ref x0), (1, .int x1)]) hc_X3_isMatched dX3_isMatched_29 rfl rfl (Nat.le_of_ble_eq_true rfl) rfl ?_
    refine v_pick [2, 3, 1, 0] rfl ?_
    exact w_X3_isMatched_l30 D l hl as h0 NN x0 x1 (1 : Int32) (0 : Int32) h1 e
  · refine v_iconst (pc' := 25) (v := 0) hc_X3_isMatched dX3_isMatched_24 rfl rfl ?_
    obtain ⟨rfl, rfl⟩ := ret_of e
    exact v_zret hc_X3_isMatched rfl (ft := .boolean) rfl dX3_isMatched_25 rfl rfl
def f_X3_isMatched (x0 : Nat) (x1 : Int32) (h : AH) : Option (Int32 × AH) :=
  gd (isC h 2 x0) <|
  bd2 (f_X3_isRoom x0 x1 h) fun r2 h3 =>
  if r2 = 0 then (
    f_X3_isMatched_j14 x0 x1 x0 (1 : Int32) h3
  ) else (
    f_X3_isMatched_j14 x0 x1 x0 (0 : Int32) h3
  )
theorem v_X3_isMatched (D : va_G) (l : Launch) (hl : l.stackTraces = false) (as : List Value) (h0 : AH) {r : Int32} {hF : AH} (x0 : Nat) (x1 : Int32) (h : AH) (e : f_X3_isMatched x0 x1 h = some (r, hF)) : V (G_X3_isMatched D l as h0 hF (oI r)) h 0 [(0, .ref x0), (1, .int x1)] [] := by
  unfold f_X3_isMatched at e
  refine v_aload_n (pc' := 1) hc_X3_isMatched dX3_isMatched_0 rfl rfl 0 rfl ?_
  refine v_aload_n (pc' := 2) hc_X3_isMatched dX3_isMatched_1 rfl rfl 0 rfl ?_
  refine v_iload_n (pc' := 3) hc_X3_isMatched dX3_isMatched_2 rfl rfl 1 rfl ?_
  obtain ⟨c1, e⟩ := gd_of e
  obtain ⟨r2, h3, e4, e⟩ := bd2_of e
  refine k_V (pc' := 6) (ci := 2) (n := 1) hc_X3_isMatched ho_X3_isMatched rfl c1 (w_X3_isRoom D l hl x0 x1 h e4) (wA_l q2470) q2472 (wA_l qs49) q85 q2473 hy_184 ⟨Nat.le_of_ble_eq_true rfl, Nat.le_of_ble_eq_true rfl⟩ rfl rfl (Nat.le_of_ble_eq_true rfl) dX3_isMatched_3 rfl (kS ?_) kN
  refine v_if_eq (pt := 13) (pf := 9) hc_X3_isMatched dX3_isMatched_6 rfl rfl e (fun _ e => ?_) (fun _ e => ?_)
  · refine v_iconst (pc' := 14) (v := 1) hc_X3_isMatched dX3_isMatched_13 rfl rfl ?_
    exact w_X3_isMatched_j14 D l hl as h0 x0 x1 x0 (1 : Int32) h3 e
  · refine v_iconst (pc' := 10) (v := 0) hc_X3_isMatched dX3_isMatched_9 rfl rfl ?_
    refine v_goto (pt := 14) hc_X3_isMatched dX3_isMatched_10 rfl ?_
    exact w_X3_isMatched_j14 D l hl as h0 x0 x1 x0 (0 : Int32) h3 e
theorem w_X3_isMatched (D : va_G) (l : Launch) (hl : l.stackTraces = false) (x0 : Nat) (x1 : Int32) (h : AH) {r : Int32} {hF : AH} (e : f_X3_isMatched x0 x1 h = some (r, hF)) : MetV D l yX3_isMatched (Cond.code yX3_isMatched cX3_isMatched 4 (Option.some .boolean)) 4 115 [.ref x0, .int x1] h hF (oI r) :=
  met_ofF (by decide +kernel) hl (Nat.le_of_ble_eq_true rfl) rfl (v_X3_isMatched D l hl [.ref x0, .int x1] h x0 x1 h e)
/-! BlockPapersModel.best(I)I  -/
abbrev G_X3_best (D : va_G) (l : Launch) (as : List Value) (h0 hF : AH) (o : Out) : CT := (D, l, (yX3_best.cls, yX3_best, cX3_best, 4, (Option.some .int), 7, 187, []), as, h0, hF, o)
theorem hc_X3_best {D : va_G} {l : Launch} {as : List Value} {h0 hF : AH} {o : Out} : gC (G_X3_best D l as h0 hF o) = cX3_best := rfl
theorem ho_X3_best {D : va_G} {l : Launch} {as : List Value} {h0 hF : AH} {o : Out} : gO (G_X3_best D l as h0 hF o) = "BlockPapersModel" := rfl
theorem hp_X3_best {D : va_G} {l : Launch} {as : List Value} {h0 hF : AH} {o : Out} (pc : Nat) : ∀ z ∈ tableOf (gHd (G_X3_best D l as h0 hF o)), covers z pc = false := hpN
def fb_X3_best_l4 (rec : Nat → Int32 → Int32 → Int32 → AH → Option (Int32 × AH)) (x0 : Nat) (x1 : Int32) (x2 : Int32) (x3 : Int32) (h : AH) : Option (Int32 × AH) :=
  bd (gtR h 2 x0 1) fun v1 =>
  bd (ldI h 0 v1 (2 : Int32)) fun v2 =>
  if v2 ≤ x3 then (
    some (x2, h)
  ) else (
    gd (isC h 2 x0) <|
    bd2 (f_X3_reasonFor x0 x1 x3 h) fun r4 h5 =>
    if r4 ≤ 0 then (
      if x2 = (-1 : Int32) then (
        rec x0 x1 x3 (x3 + 1) h5
      ) else (
        gd (isC h5 2 x0) <|
        bd2 (f_X3_wasteFor x0 x1 x3 h5) fun r8 h9 =>
        gd (isC h9 2 x0) <|
        bd2 (f_X3_wasteFor x0 x1 x2 h9) fun r12 h13 =>
        if r8 < r12 then (
          rec x0 x1 x3 (x3 + 1) h13
        ) else (
          gd (isC h13 2 x0) <|
          bd2 (f_X3_wasteFor x0 x1 x3 h13) fun r16 h17 =>
          gd (isC h17 2 x0) <|
          bd2 (f_X3_wasteFor x0 x1 x2 h17) fun r20 h21 =>
          if r16 = r20 then (
            gd (isC h21 2 x0) <|
            bd2 (f_X3_leftOf x0 x3 h21) fun r24 h25 =>
            gd (isC h25 2 x0) <|
            bd2 (f_X3_leftOf x0 x2 h25) fun r28 h29 =>
            if r28 ≤ r24 then (
              rec x0 x1 x2 (x3 + 1) h29
            ) else (
              rec x0 x1 x3 (x3 + 1) h29
            )
          ) else (
            rec x0 x1 x2 (x3 + 1) h21
          )
        )
      )
    ) else (
      rec x0 x1 x2 (x3 + 1) h5
    )
  )
def f_X3_best_l4 : Nat → Nat → Int32 → Int32 → Int32 → AH → Option (Int32 × AH)
  | 0 => fun _ _ _ _ _ => none
  | n + 1 => fb_X3_best_l4 (f_X3_best_l4 n) 
theorem w_X3_best_l4 (D : va_G) (l : Launch) (hl : l.stackTraces = false) (as : List Value) (h0 : AH) {r : Int32} {hF : AH} : ∀ (n : Nat) (x0 : Nat) (x1 : Int32) (x2 : Int32) (x3 : Int32) (h : AH), f_X3_best_l4 n x0 x1 x2 x3 h = some (r, hF) → V (G_X3_best D l as h0 hF (oI r)) h 4 [(0, .ref x0), (1, .int x1), (2, .int x2), (3, .int x3)] [] := by
  intro n; induction n with
  | zero => intro x0 x1 x2 x3 h e; exact absurd (show (none : Option (Int32 × AH)) = some _ from e) (fun z => nomatch z)
  | succ n IH =>
    intro x0 x1 x2 x3 h e
    have e : fb_X3_best_l4 (f_X3_best_l4 n) x0 x1 x2 x3 h = some (r, hF) := e
    unfold fb_X3_best_l4 at e
    refine v_iload_n (pc' := 5) hc_X3_best dX3_best_4 rfl rfl 3 rfl ?_
    refine v_aload_n (pc' := 6) hc_X3_best dX3_best_5 rfl rfl 0 rfl ?_
    refine v_gfR (pc' := 9) hc_X3_best ho_X3_best KX3 1 (Nat.le_of_ble_eq_true rfl) q2243 (Or.inl rfl) dX3_best_6 rfl e (fun v1 _ e => ?_)
    refine v_iconst (pc' := 10) (v := 2) hc_X3_best dX3_best_9 rfl rfl ?_
    refine v_iald (pc' := 11) hc_X3_best dX3_best_10 rfl e (fun v2 _ e => ?_)
    refine v_icmp_ge (pt := 82) (pf := 14) hc_X3_best dX3_best_11 rfl rfl e (fun _ e => ?_) (fun _ e => ?_)
    · refine v_iload_n (pc' := 83) hc_X3_best dX3_best_82 rfl rfl 2 rfl ?_
      obtain ⟨rfl, rfl⟩ := ret_of e
      exact v_iret hc_X3_best rfl dX3_best_83 rfl rfl
    · refine v_aload_n (pc' := 15) hc_X3_best dX3_best_14 rfl rfl 0 rfl ?_
      refine v_iload_n (pc' := 16) hc_X3_best dX3_best_15 rfl rfl 1 rfl ?_
      refine v_iload_n (pc' := 17) hc_X3_best dX3_best_16 rfl rfl 3 rfl ?_
      obtain ⟨c3, e⟩ := gd_of e
      obtain ⟨r4, h5, e6, e⟩ := bd2_of e
      refine k_V (pc' := 20) (ci := 2) (n := 2) hc_X3_best ho_X3_best rfl c3 (w_X3_reasonFor D l hl x0 x1 x3 h e6) (wA_l q2498) q2500 (wA_l qs54) q85 q2501 hy_195 ⟨Nat.le_of_ble_eq_true rfl, Nat.le_of_ble_eq_true rfl⟩ rfl rfl (Nat.le_of_ble_eq_true rfl) dX3_best_17 rfl (kS ?_) kN
      refine v_if_le (pt := 26) (pf := 23) hc_X3_best dX3_best_20 rfl rfl e (fun _ e => ?_) (fun _ e => ?_)
      · refine v_iload_n (pc' := 27) hc_X3_best dX3_best_26 rfl rfl 2 rfl ?_
        refine v_iconst (pc' := 28) (v := (-1)) hc_X3_best dX3_best_27 rfl rfl ?_
        refine v_icmp_eq (pt := 74) (pf := 31) hc_X3_best dX3_best_28 rfl rfl e (fun _ e => ?_) (fun _ e => ?_)
        · refine v_iload_n (pc' := 75) hc_X3_best dX3_best_74 rfl rfl 3 rfl ?_
          refine v_istore_n (pc' := 76) (lv' := [(2, .int x3), (0, .ref x0), (1, .int x1), (3, .int x3)]) hc_X3_best dX3_best_75 rfl rfl (Nat.le_of_ble_eq_true rfl) rfl ?_
          refine v_iinc (pc' := 79) (lv' := [(3, .int (x3 + 1)), (2, .int x3), (0, .ref x0), (1, .int x1)]) (v := x3 + 1) hc_X3_best dX3_best_76 rfl 3 rfl rfl (Nat.le_of_ble_eq_true rfl) rfl ?_
          refine v_goto (pt := 4) hc_X3_best dX3_best_79 rfl ?_
          refine v_pick [2, 3, 1, 0] rfl ?_
          exact IH x0 x1 x3 (x3 + 1) h5 e
        · refine v_aload_n (pc' := 32) hc_X3_best dX3_best_31 rfl rfl 0 rfl ?_
          refine v_iload_n (pc' := 33) hc_X3_best dX3_best_32 rfl rfl 1 rfl ?_
          refine v_iload_n (pc' := 34) hc_X3_best dX3_best_33 rfl rfl 3 rfl ?_
          obtain ⟨c7, e⟩ := gd_of e
          obtain ⟨r8, h9, e10, e⟩ := bd2_of e
          refine k_V (pc' := 37) (ci := 2) (n := 2) hc_X3_best ho_X3_best rfl c7 (w_X3_wasteFor D l hl x0 x1 x3 h5 e10) (wA_l q2502) q2504 (wA_l qs55) q85 q2505 hy_194 ⟨Nat.le_of_ble_eq_true rfl, Nat.le_of_ble_eq_true rfl⟩ rfl rfl (Nat.le_of_ble_eq_true rfl) dX3_best_34 rfl (kS ?_) kN
          refine v_aload_n (pc' := 38) hc_X3_best dX3_best_37 rfl rfl 0 rfl ?_
          refine v_iload_n (pc' := 39) hc_X3_best dX3_best_38 rfl rfl 1 rfl ?_
          refine v_iload_n (pc' := 40) hc_X3_best dX3_best_39 rfl rfl 2 rfl ?_
          obtain ⟨c11, e⟩ := gd_of e
          obtain ⟨r12, h13, e14, e⟩ := bd2_of e
          refine k_V (pc' := 43) (ci := 2) (n := 2) hc_X3_best ho_X3_best rfl c11 (w_X3_wasteFor D l hl x0 x1 x2 h9 e14) (wA_l q2502) q2504 (wA_l qs55) q85 q2505 hy_194 ⟨Nat.le_of_ble_eq_true rfl, Nat.le_of_ble_eq_true rfl⟩ rfl rfl (Nat.le_of_ble_eq_true rfl) dX3_best_40 rfl (kS ?_) kN
          refine v_icmp_lt (pt := 74) (pf := 46) hc_X3_best dX3_best_43 rfl rfl e (fun _ e => ?_) (fun _ e => ?_)
          · refine v_iload_n (pc' := 75) hc_X3_best dX3_best_74 rfl rfl 3 rfl ?_
            refine v_istore_n (pc' := 76) (lv' := [(2, .int x3), (0, .ref x0), (1, .int x1), (3, .int x3)]) hc_X3_best dX3_best_75 rfl rfl (Nat.le_of_ble_eq_true rfl) rfl ?_
            refine v_iinc (pc' := 79) (lv' := [(3, .int (x3 + 1)), (2, .int x3), (0, .ref x0), (1, .int x1)]) (v := x3 + 1) hc_X3_best dX3_best_76 rfl 3 rfl rfl (Nat.le_of_ble_eq_true rfl) rfl ?_
            refine v_goto (pt := 4) hc_X3_best dX3_best_79 rfl ?_
            refine v_pick [2, 3, 1, 0] rfl ?_
            exact IH x0 x1 x3 (x3 + 1) h13 e
          · refine v_aload_n (pc' := 47) hc_X3_best dX3_best_46 rfl rfl 0 rfl ?_
            refine v_iload_n (pc' := 48) hc_X3_best dX3_best_47 rfl rfl 1 rfl ?_
            refine v_iload_n (pc' := 49) hc_X3_best dX3_best_48 rfl rfl 3 rfl ?_
            obtain ⟨c15, e⟩ := gd_of e
            obtain ⟨r16, h17, e18, e⟩ := bd2_of e
            refine k_V (pc' := 52) (ci := 2) (n := 2) hc_X3_best ho_X3_best rfl c15 (w_X3_wasteFor D l hl x0 x1 x3 h13 e18) (wA_l q2502) q2504 (wA_l qs55) q85 q2505 hy_194 ⟨Nat.le_of_ble_eq_true rfl, Nat.le_of_ble_eq_true rfl⟩ rfl rfl (Nat.le_of_ble_eq_true rfl) dX3_best_49 rfl (kS ?_) kN
            refine v_aload_n (pc' := 53) hc_X3_best dX3_best_52 rfl rfl 0 rfl ?_
            refine v_iload_n (pc' := 54) hc_X3_best dX3_best_53 rfl rfl 1 rfl ?_
            refine v_iload_n (pc' := 55) hc_X3_best dX3_best_54 rfl rfl 2 rfl ?_
            obtain ⟨c19, e⟩ := gd_of e
            obtain ⟨r20, h21, e22, e⟩ := bd2_of e
            refine k_V (pc' := 58) (ci := 2) (n := 2) hc_X3_best ho_X3_best rfl c19 (w_X3_wasteFor D l hl x0 x1 x2 h17 e22) (wA_l q2502) q2504 (wA_l qs55) q85 q2505 hy_194 ⟨Nat.le_of_ble_eq_true rfl, Nat.le_of_ble_eq_true rfl⟩ rfl rfl (Nat.le_of_ble_eq_true rfl) dX3_best_55 rfl (kS ?_) kN
            refine v_icmp_ne (pt := 76) (pf := 61) hc_X3_best dX3_best_58 rfl rfl e (fun _ e => ?_) (fun _ e => ?_)
            · refine v_aload_n (pc' := 62) hc_X3_best dX3_best_61 rfl rfl 0 rfl ?_
              refine v_iload_n (pc' := 63) hc_X3_best dX3_best_62 rfl rfl 3 rfl ?_
              obtain ⟨c23, e⟩ := gd_of e
              obtain ⟨r24, h25, e26, e⟩ := bd2_of e
              refine k_V (pc' := 66) (ci := 2) (n := 1) hc_X3_best ho_X3_best rfl c23 (w_X3_leftOf D l hl x0 x3 h21 e26) (wA_l q2427) q2429 (wA_l qs42) q85 q2430 hy_167 ⟨Nat.le_of_ble_eq_true rfl, Nat.le_of_ble_eq_true rfl⟩ rfl rfl (Nat.le_of_ble_eq_true rfl) dX3_best_63 rfl (kS ?_) kN
              refine v_aload_n (pc' := 67) hc_X3_best dX3_best_66 rfl rfl 0 rfl ?_
              refine v_iload_n (pc' := 68) hc_X3_best dX3_best_67 rfl rfl 2 rfl ?_
              obtain ⟨c27, e⟩ := gd_of e
              obtain ⟨r28, h29, e30, e⟩ := bd2_of e
              refine k_V (pc' := 71) (ci := 2) (n := 1) hc_X3_best ho_X3_best rfl c27 (w_X3_leftOf D l hl x0 x2 h25 e30) (wA_l q2427) q2429 (wA_l qs42) q85 q2430 hy_167 ⟨Nat.le_of_ble_eq_true rfl, Nat.le_of_ble_eq_true rfl⟩ rfl rfl (Nat.le_of_ble_eq_true rfl) dX3_best_68 rfl (kS ?_) kN
              refine v_icmp_ge (pt := 76) (pf := 74) hc_X3_best dX3_best_71 rfl rfl e (fun _ e => ?_) (fun _ e => ?_)
              · refine v_iinc (pc' := 79) (lv' := [(3, .int (x3 + 1)), (0, .ref x0), (1, .int x1), (2, .int x2)]) (v := x3 + 1) hc_X3_best dX3_best_76 rfl 3 rfl rfl (Nat.le_of_ble_eq_true rfl) rfl ?_
                refine v_goto (pt := 4) hc_X3_best dX3_best_79 rfl ?_
                refine v_pick [1, 2, 3, 0] rfl ?_
                exact IH x0 x1 x2 (x3 + 1) h29 e
              · refine v_iload_n (pc' := 75) hc_X3_best dX3_best_74 rfl rfl 3 rfl ?_
                refine v_istore_n (pc' := 76) (lv' := [(2, .int x3), (0, .ref x0), (1, .int x1), (3, .int x3)]) hc_X3_best dX3_best_75 rfl rfl (Nat.le_of_ble_eq_true rfl) rfl ?_
                refine v_iinc (pc' := 79) (lv' := [(3, .int (x3 + 1)), (2, .int x3), (0, .ref x0), (1, .int x1)]) (v := x3 + 1) hc_X3_best dX3_best_76 rfl 3 rfl rfl (Nat.le_of_ble_eq_true rfl) rfl ?_
                refine v_goto (pt := 4) hc_X3_best dX3_best_79 rfl ?_
                refine v_pick [2, 3, 1, 0] rfl ?_
                exact IH x0 x1 x3 (x3 + 1) h29 e
            · refine v_iinc (pc' := 79) (lv' := [(3, .int (x3 + 1)), (0, .ref x0), (1, .int x1), (2, .int x2)]) (v := x3 + 1) hc_X3_best dX3_best_76 rfl 3 rfl rfl (Nat.le_of_ble_eq_true rfl) rfl ?_
              refine v_goto (pt := 4) hc_X3_best dX3_best_79 rfl ?_
              refine v_pick [1, 2, 3, 0] rfl ?_
              exact IH x0 x1 x2 (x3 + 1) h21 e
      · refine v_goto (pt := 76) hc_X3_best dX3_best_23 rfl ?_
        refine v_iinc (pc' := 79) (lv' := [(3, .int (x3 + 1)), (0, .ref x0), (1, .int x1), (2, .int x2)]) (v := x3 + 1) hc_X3_best dX3_best_76 rfl 3 rfl rfl (Nat.le_of_ble_eq_true rfl) rfl ?_
        refine v_goto (pt := 4) hc_X3_best dX3_best_79 rfl ?_
        refine v_pick [1, 2, 3, 0] rfl ?_
        exact IH x0 x1 x2 (x3 + 1) h5 e
def f_X3_best (x0 : Nat) (x1 : Int32) (h : AH) : Option (Int32 × AH) :=
  f_X3_best_l4 NN x0 x1 (-1 : Int32) (0 : Int32) h
theorem v_X3_best (D : va_G) (l : Launch) (hl : l.stackTraces = false) (as : List Value) (h0 : AH) {r : Int32} {hF : AH} (x0 : Nat) (x1 : Int32) (h : AH) (e : f_X3_best x0 x1 h = some (r, hF)) : V (G_X3_best D l as h0 hF (oI r)) h 0 [(0, .ref x0), (1, .int x1)] [] := by
  unfold f_X3_best at e
  refine v_iconst (pc' := 1) (v := (-1)) hc_X3_best dX3_best_0 rfl rfl ?_
  refine v_istore_n (pc' := 2) (lv' := [(2, .int (-1 : Int32)), (0, .ref x0), (1, .int x1)]) hc_X3_best dX3_best_1 rfl rfl (Nat.le_of_ble_eq_true rfl) rfl ?_
  refine v_iconst (pc' := 3) (v := 0) hc_X3_best dX3_best_2 rfl rfl ?_
  refine v_istore_n (pc' := 4) (lv' := [(3, .int (0 : Int32)), (2, .int (-1 : Int32)), (0, .ref x0), (1, .int x1)]) hc_X3_best dX3_best_3 rfl rfl (Nat.le_of_ble_eq_true rfl) rfl ?_
  refine v_pick [2, 3, 1, 0] rfl ?_
  exact w_X3_best_l4 D l hl as h0 NN x0 x1 (-1 : Int32) (0 : Int32) h e
theorem w_X3_best (D : va_G) (l : Launch) (hl : l.stackTraces = false) (x0 : Nat) (x1 : Int32) (h : AH) {r : Int32} {hF : AH} (e : f_X3_best x0 x1 h = some (r, hF)) : MetV D l yX3_best (Cond.code yX3_best cX3_best 4 (Option.some .int)) 7 187 [.ref x0, .int x1] h hF (oI r) :=
  met_ofF (by decide +kernel) hl (Nat.le_of_ble_eq_true rfl) rfl (v_X3_best D l hl [.ref x0, .int x1] h x0 x1 h e)
/-! BlockPapersModel.bestRoll(I)I  -/
abbrev G_X3_bestRoll (D : va_G) (l : Launch) (as : List Value) (h0 hF : AH) (o : Out) : CT := (D, l, (yX3_bestRoll.cls, yX3_bestRoll, cX3_bestRoll, 2, (Option.some .int), 8, 210, []), as, h0, hF, o)
theorem hc_X3_bestRoll {D : va_G} {l : Launch} {as : List Value} {h0 hF : AH} {o : Out} : gC (G_X3_bestRoll D l as h0 hF o) = cX3_bestRoll := rfl
theorem ho_X3_bestRoll {D : va_G} {l : Launch} {as : List Value} {h0 hF : AH} {o : Out} : gO (G_X3_bestRoll D l as h0 hF o) = "BlockPapersModel" := rfl
theorem hp_X3_bestRoll {D : va_G} {l : Launch} {as : List Value} {h0 hF : AH} {o : Out} (pc : Nat) : ∀ z ∈ tableOf (gHd (G_X3_bestRoll D l as h0 hF o)), covers z pc = false := hpN
def f_X3_bestRoll (x0 : Nat) (x1 : Int32) (h : AH) : Option (Int32 × AH) :=
  bd (stF h 2 x0 0 (.int (0 : Int32))) fun h1 =>
  gd (isC h1 2 x0) <|
  bd2 (f_X3_isRoom x0 x1 h1) fun r3 h4 =>
  if r3 = 0 then (
    gd (isC h4 2 x0) <|
    bd2 (f_X3_fails x0 (1 : Int32) h4) fun r7 h8 =>
    some (r7, h8)
  ) else (
    gd (isC h4 2 x0) <|
    bd2 (f_X3_best x0 x1 h4) fun r11 h12 =>
    if r11 = (-1 : Int32) then (
      gd (isC h12 2 x0) <|
      bd2 (f_X3_fails x0 (2 : Int32) h12) fun r15 h16 =>
      some (r15, h16)
    ) else (
      gd (isC h12 2 x0) <|
      bd2 (f_X3_best x0 x1 h12) fun r19 h20 =>
      some (r19, h20)
    )
  )
theorem v_X3_bestRoll (D : va_G) (l : Launch) (hl : l.stackTraces = false) (as : List Value) (h0 : AH) {r : Int32} {hF : AH} (x0 : Nat) (x1 : Int32) (h : AH) (e : f_X3_bestRoll x0 x1 h = some (r, hF)) : V (G_X3_bestRoll D l as h0 hF (oI r)) h 0 [(0, .ref x0), (1, .int x1)] [] := by
  unfold f_X3_bestRoll at e
  refine v_aload_n (pc' := 1) hc_X3_bestRoll dX3_bestRoll_0 rfl rfl 0 rfl ?_
  refine v_iconst (pc' := 2) (v := 0) hc_X3_bestRoll dX3_bestRoll_1 rfl rfl ?_
  refine v_pf (pc' := 5) hc_X3_bestRoll ho_X3_bestRoll KX3 0 (Nat.le_of_ble_eq_true rfl) q2242 (Or.inl rfl) rfl dX3_bestRoll_2 rfl rfl rfl e (fun h1 _ e => ?_)
  refine v_aload_n (pc' := 6) hc_X3_bestRoll dX3_bestRoll_5 rfl rfl 0 rfl ?_
  refine v_iload_n (pc' := 7) hc_X3_bestRoll dX3_bestRoll_6 rfl rfl 1 rfl ?_
  obtain ⟨c2, e⟩ := gd_of e
  obtain ⟨r3, h4, e5, e⟩ := bd2_of e
  refine k_V (pc' := 10) (ci := 2) (n := 1) hc_X3_bestRoll ho_X3_bestRoll rfl c2 (w_X3_isRoom D l hl x0 x1 h1 e5) (wA_l q2470) q2472 (wA_l qs49) q85 q2473 hy_184 ⟨Nat.le_of_ble_eq_true rfl, Nat.le_of_ble_eq_true rfl⟩ rfl rfl (Nat.le_of_ble_eq_true rfl) dX3_bestRoll_7 rfl (kS ?_) kN
  refine v_if_ne (pt := 19) (pf := 13) hc_X3_bestRoll dX3_bestRoll_10 rfl rfl e (fun _ e => ?_) (fun _ e => ?_)
  · refine v_aload_n (pc' := 14) hc_X3_bestRoll dX3_bestRoll_13 rfl rfl 0 rfl ?_
    refine v_iconst (pc' := 15) (v := 1) hc_X3_bestRoll dX3_bestRoll_14 rfl rfl ?_
    obtain ⟨c6, e⟩ := gd_of e
    obtain ⟨r7, h8, e9, e⟩ := bd2_of e
    refine k_V (pc' := 18) (ci := 2) (n := 1) hc_X3_bestRoll ho_X3_bestRoll rfl c6 (w_X3_fails D l hl x0 (1 : Int32) h4 e9) (wA_l q2351) q2353 (wA_l qs30) q85 q2354 hy_119 ⟨Nat.le_of_ble_eq_true rfl, Nat.le_of_ble_eq_true rfl⟩ rfl rfl (Nat.le_of_ble_eq_true rfl) dX3_bestRoll_15 rfl (kS ?_) kN
    obtain ⟨rfl, rfl⟩ := ret_of e
    exact v_iret hc_X3_bestRoll rfl dX3_bestRoll_18 rfl rfl
  · refine v_aload_n (pc' := 20) hc_X3_bestRoll dX3_bestRoll_19 rfl rfl 0 rfl ?_
    refine v_iload_n (pc' := 21) hc_X3_bestRoll dX3_bestRoll_20 rfl rfl 1 rfl ?_
    obtain ⟨c10, e⟩ := gd_of e
    obtain ⟨r11, h12, e13, e⟩ := bd2_of e
    refine k_V (pc' := 24) (ci := 2) (n := 1) hc_X3_bestRoll ho_X3_bestRoll rfl c10 (w_X3_best D l hl x0 x1 h4 e13) (wA_l q2526) q2528 (wA_l qs57) q85 q2529 hy_210 ⟨Nat.le_of_ble_eq_true rfl, Nat.le_of_ble_eq_true rfl⟩ rfl rfl (Nat.le_of_ble_eq_true rfl) dX3_bestRoll_21 rfl (kS ?_) kN
    refine v_iconst (pc' := 25) (v := (-1)) hc_X3_bestRoll dX3_bestRoll_24 rfl rfl ?_
    refine v_icmp_ne (pt := 36) (pf := 28) hc_X3_bestRoll dX3_bestRoll_25 rfl rfl e (fun _ e => ?_) (fun _ e => ?_)
    · refine v_aload_n (pc' := 29) hc_X3_bestRoll dX3_bestRoll_28 rfl rfl 0 rfl ?_
      refine v_iconst (pc' := 30) (v := 2) hc_X3_bestRoll dX3_bestRoll_29 rfl rfl ?_
      obtain ⟨c14, e⟩ := gd_of e
      obtain ⟨r15, h16, e17, e⟩ := bd2_of e
      refine k_V (pc' := 33) (ci := 2) (n := 1) hc_X3_bestRoll ho_X3_bestRoll rfl c14 (w_X3_fails D l hl x0 (2 : Int32) h12 e17) (wA_l q2351) q2353 (wA_l qs30) q85 q2354 hy_119 ⟨Nat.le_of_ble_eq_true rfl, Nat.le_of_ble_eq_true rfl⟩ rfl rfl (Nat.le_of_ble_eq_true rfl) dX3_bestRoll_30 rfl (kS ?_) kN
      refine v_goto (pt := 41) hc_X3_bestRoll dX3_bestRoll_33 rfl ?_
      obtain ⟨rfl, rfl⟩ := ret_of e
      exact v_iret hc_X3_bestRoll rfl dX3_bestRoll_41 rfl rfl
    · refine v_aload_n (pc' := 37) hc_X3_bestRoll dX3_bestRoll_36 rfl rfl 0 rfl ?_
      refine v_iload_n (pc' := 38) hc_X3_bestRoll dX3_bestRoll_37 rfl rfl 1 rfl ?_
      obtain ⟨c18, e⟩ := gd_of e
      obtain ⟨r19, h20, e21, e⟩ := bd2_of e
      refine k_V (pc' := 41) (ci := 2) (n := 1) hc_X3_bestRoll ho_X3_bestRoll rfl c18 (w_X3_best D l hl x0 x1 h12 e21) (wA_l q2526) q2528 (wA_l qs57) q85 q2529 hy_210 ⟨Nat.le_of_ble_eq_true rfl, Nat.le_of_ble_eq_true rfl⟩ rfl rfl (Nat.le_of_ble_eq_true rfl) dX3_bestRoll_38 rfl (kS ?_) kN
      obtain ⟨rfl, rfl⟩ := ret_of e
      exact v_iret hc_X3_bestRoll rfl dX3_bestRoll_41 rfl rfl
theorem w_X3_bestRoll (D : va_G) (l : Launch) (hl : l.stackTraces = false) (x0 : Nat) (x1 : Int32) (h : AH) {r : Int32} {hF : AH} (e : f_X3_bestRoll x0 x1 h = some (r, hF)) : MetV D l yX3_bestRoll (Cond.code yX3_bestRoll cX3_bestRoll 2 (Option.some .int)) 8 210 [.ref x0, .int x1] h hF (oI r) :=
  met_ofF (by decide +kernel) hl (Nat.le_of_ble_eq_true rfl) rfl (v_X3_bestRoll D l hl [.ref x0, .int x1] h x0 x1 h e)
/-! BlockPapersModel.finishes(I)I  -/
abbrev G_X3_finishes (D : va_G) (l : Launch) (as : List Value) (h0 hF : AH) (o : Out) : CT := (D, l, (yX3_finishes.cls, yX3_finishes, cX3_finishes, 5, (Option.some .int), 8, 212, []), as, h0, hF, o)
theorem hc_X3_finishes {D : va_G} {l : Launch} {as : List Value} {h0 hF : AH} {o : Out} : gC (G_X3_finishes D l as h0 hF o) = cX3_finishes := rfl
theorem ho_X3_finishes {D : va_G} {l : Launch} {as : List Value} {h0 hF : AH} {o : Out} : gO (G_X3_finishes D l as h0 hF o) = "BlockPapersModel" := rfl
theorem hp_X3_finishes {D : va_G} {l : Launch} {as : List Value} {h0 hF : AH} {o : Out} (pc : Nat) : ∀ z ∈ tableOf (gHd (G_X3_finishes D l as h0 hF o)), covers z pc = false := hpN
def fb_X3_finishes_l35 (rec : Nat → Int32 → Int32 → Int32 → AH → Option (Int32 × AH)) (x0 : Nat) (x1 : Int32) (x2 : Int32) (x3 : Int32) (h : AH) : Option (Int32 × AH) :=
  if x3 = (-1 : Int32) then (
    if x2 = 0 then (
      gd (isC h 2 x0) <|
      bd2 (f_X3_refused x0 (14 : Int32) x1 h) fun r2 h3 =>
      some (r2, h3)
    ) else (
      gd (isC h 2 x0) <|
      bd2 (f_X3_done x0 x2 h) fun r6 h7 =>
      some (r6, h7)
    )
  ) else (
    gd (isC h 2 x0) <|
    bd2 (f_X3_hangs x0 x1 x3 h) fun r10 h11 =>
    gd (isC h11 2 x0) <|
    bd2 (f_X3_best x0 x1 h11) fun r14 h15 =>
    rec x0 x1 (x2 + 1) r14 h15
  )
def f_X3_finishes_l35 : Nat → Nat → Int32 → Int32 → Int32 → AH → Option (Int32 × AH)
  | 0 => fun _ _ _ _ _ => none
  | n + 1 => fb_X3_finishes_l35 (f_X3_finishes_l35 n) 
theorem w_X3_finishes_l35 (D : va_G) (l : Launch) (hl : l.stackTraces = false) (as : List Value) (h0 : AH) {r : Int32} {hF : AH} : ∀ (n : Nat) (x0 : Nat) (x1 : Int32) (x2 : Int32) (x3 : Int32) (h : AH), f_X3_finishes_l35 n x0 x1 x2 x3 h = some (r, hF) → V (G_X3_finishes D l as h0 hF (oI r)) h 35 [(0, .ref x0), (1, .int x1), (2, .int x2), (3, .int x3)] [] := by
  intro n; induction n with
  | zero => intro x0 x1 x2 x3 h e; exact absurd (show (none : Option (Int32 × AH)) = some _ from e) (fun z => nomatch z)
  | succ n IH =>
    intro x0 x1 x2 x3 h e
    have e : fb_X3_finishes_l35 (f_X3_finishes_l35 n) x0 x1 x2 x3 h = some (r, hF) := e
    unfold fb_X3_finishes_l35 at e
    refine v_iload_n (pc' := 36) hc_X3_finishes dX3_finishes_35 rfl rfl 3 rfl ?_
    refine v_iconst (pc' := 37) (v := (-1)) hc_X3_finishes dX3_finishes_36 rfl rfl ?_
    refine v_icmp_eq (pt := 60) (pf := 40) hc_X3_finishes dX3_finishes_37 rfl rfl e (fun _ e => ?_) (fun _ e => ?_)
    · refine v_iload_n (pc' := 61) hc_X3_finishes dX3_finishes_60 rfl rfl 2 rfl ?_
      refine v_if_ne (pt := 74) (pf := 64) hc_X3_finishes dX3_finishes_61 rfl rfl e (fun _ e => ?_) (fun _ e => ?_)
      · refine v_aload_n (pc' := 65) hc_X3_finishes dX3_finishes_64 rfl rfl 0 rfl ?_
        refine v_bipush (pc' := 67) (v := 14) hc_X3_finishes dX3_finishes_65 rfl rfl ?_
        refine v_iload_n (pc' := 68) hc_X3_finishes dX3_finishes_67 rfl rfl 1 rfl ?_
        obtain ⟨c1, e⟩ := gd_of e
        obtain ⟨r2, h3, e4, e⟩ := bd2_of e
        refine k_V (pc' := 71) (ci := 2) (n := 2) hc_X3_finishes ho_X3_finishes rfl c1 (w_X3_refused D l hl x0 (14 : Int32) x1 h e4) (wA_l q2335) q2337 (wA_l qs26) q85 q2338 hy_120 ⟨Nat.le_of_ble_eq_true rfl, Nat.le_of_ble_eq_true rfl⟩ rfl rfl (Nat.le_of_ble_eq_true rfl) dX3_finishes_68 rfl (kS ?_) kN
        refine v_goto (pt := 79) hc_X3_finishes dX3_finishes_71 rfl ?_
        obtain ⟨rfl, rfl⟩ := ret_of e
        exact v_iret hc_X3_finishes rfl dX3_finishes_79 rfl rfl
      · refine v_aload_n (pc' := 75) hc_X3_finishes dX3_finishes_74 rfl rfl 0 rfl ?_
        refine v_iload_n (pc' := 76) hc_X3_finishes dX3_finishes_75 rfl rfl 2 rfl ?_
        obtain ⟨c5, e⟩ := gd_of e
        obtain ⟨r6, h7, e8, e⟩ := bd2_of e
        refine k_V (pc' := 79) (ci := 2) (n := 1) hc_X3_finishes ho_X3_finishes rfl c5 (w_X3_done D l hl x0 x2 h e8) (wA_l q2339) q2341 (wA_l qs27) q85 q2342 hy_121 ⟨Nat.le_of_ble_eq_true rfl, Nat.le_of_ble_eq_true rfl⟩ rfl rfl (Nat.le_of_ble_eq_true rfl) dX3_finishes_76 rfl (kS ?_) kN
        obtain ⟨rfl, rfl⟩ := ret_of e
        exact v_iret hc_X3_finishes rfl dX3_finishes_79 rfl rfl
    · refine v_aload_n (pc' := 41) hc_X3_finishes dX3_finishes_40 rfl rfl 0 rfl ?_
      refine v_iload_n (pc' := 42) hc_X3_finishes dX3_finishes_41 rfl rfl 1 rfl ?_
      refine v_iload_n (pc' := 43) hc_X3_finishes dX3_finishes_42 rfl rfl 3 rfl ?_
      obtain ⟨c9, e⟩ := gd_of e
      obtain ⟨r10, h11, e12, e⟩ := bd2_of e
      refine k_V (pc' := 46) (ci := 2) (n := 2) hc_X3_finishes ho_X3_finishes rfl c9 (w_X3_hangs D l hl x0 x1 x3 h e12) (wA_l q2494) q2496 (wA_l qs53) q85 q2497 hy_196 ⟨Nat.le_of_ble_eq_true rfl, Nat.le_of_ble_eq_true rfl⟩ rfl rfl (Nat.le_of_ble_eq_true rfl) dX3_finishes_43 rfl (kS ?_) kN
      refine v_istore (pc' := 48) (lv' := [(4, .int r10), (0, .ref x0), (1, .int x1), (2, .int x2), (3, .int x3)]) hc_X3_finishes dX3_finishes_46 rfl (Nat.le_of_ble_eq_true rfl) rfl ?_
      refine v_iinc (pc' := 51) (lv' := [(2, .int (x2 + 1)), (4, .int r10), (0, .ref x0), (1, .int x1), (3, .int x3)]) (v := x2 + 1) hc_X3_finishes dX3_finishes_48 rfl 3 rfl rfl (Nat.le_of_ble_eq_true rfl) rfl ?_
      refine v_aload_n (pc' := 52) hc_X3_finishes dX3_finishes_51 rfl rfl 2 rfl ?_
      refine v_iload_n (pc' := 53) hc_X3_finishes dX3_finishes_52 rfl rfl 3 rfl ?_
      obtain ⟨c13, e⟩ := gd_of e
      obtain ⟨r14, h15, e16, e⟩ := bd2_of e
      refine k_V (pc' := 56) (ci := 2) (n := 1) hc_X3_finishes ho_X3_finishes rfl c13 (w_X3_best D l hl x0 x1 h11 e16) (wA_l q2526) q2528 (wA_l qs57) q85 q2529 hy_210 ⟨Nat.le_of_ble_eq_true rfl, Nat.le_of_ble_eq_true rfl⟩ rfl rfl (Nat.le_of_ble_eq_true rfl) dX3_finishes_53 rfl (kS ?_) kN
      refine v_istore_n (pc' := 57) (lv' := [(3, .int r14), (2, .int (x2 + 1)), (4, .int r10), (0, .ref x0), (1, .int x1)]) hc_X3_finishes dX3_finishes_56 rfl rfl (Nat.le_of_ble_eq_true rfl) rfl ?_
      refine v_goto (pt := 35) hc_X3_finishes dX3_finishes_57 rfl ?_
      refine v_pick [3, 4, 1, 0] rfl ?_
      exact IH x0 x1 (x2 + 1) r14 h15 e
def f_X3_finishes (x0 : Nat) (x1 : Int32) (h : AH) : Option (Int32 × AH) :=
  gd (isC h 2 x0) <|
  bd2 (f_X3_roomRow x0 x1 (2 : Int32) h) fun r2 h3 =>
  gd (isC h3 2 x0) <|
  bd2 (f_X3_roomRow x0 x1 (1 : Int32) h3) fun r6 h7 =>
  if r2 = r6 then (
    gd (isC h7 2 x0) <|
    bd2 (f_X3_roomRow x0 x1 (1 : Int32) h7) fun r10 h11 =>
    gd (isC h11 2 x0) <|
    bd2 (f_X3_refused x0 (4 : Int32) r10 h11) fun r14 h15 =>
    some (r14, h15)
  ) else (
    gd (isC h7 2 x0) <|
    bd2 (f_X3_best x0 x1 h7) fun r18 h19 =>
    f_X3_finishes_l35 NN x0 x1 (0 : Int32) r18 h19
  )
theorem v_X3_finishes (D : va_G) (l : Launch) (hl : l.stackTraces = false) (as : List Value) (h0 : AH) {r : Int32} {hF : AH} (x0 : Nat) (x1 : Int32) (h : AH) (e : f_X3_finishes x0 x1 h = some (r, hF)) : V (G_X3_finishes D l as h0 hF (oI r)) h 0 [(0, .ref x0), (1, .int x1)] [] := by
  unfold f_X3_finishes at e
  refine v_aload_n (pc' := 1) hc_X3_finishes dX3_finishes_0 rfl rfl 0 rfl ?_
  refine v_iload_n (pc' := 2) hc_X3_finishes dX3_finishes_1 rfl rfl 1 rfl ?_
  refine v_iconst (pc' := 3) (v := 2) hc_X3_finishes dX3_finishes_2 rfl rfl ?_
  obtain ⟨c1, e⟩ := gd_of e
  obtain ⟨r2, h3, e4, e⟩ := bd2_of e
  refine k_V (pc' := 6) (ci := 2) (n := 2) hc_X3_finishes ho_X3_finishes rfl c1 (w_X3_roomRow D l hl x0 x1 (2 : Int32) h e4) (wA_l q2435) q2437 (wA_l qs44) q85 q2438 hy_168 ⟨Nat.le_of_ble_eq_true rfl, Nat.le_of_ble_eq_true rfl⟩ rfl rfl (Nat.le_of_ble_eq_true rfl) dX3_finishes_3 rfl (kS ?_) kN
  refine v_aload_n (pc' := 7) hc_X3_finishes dX3_finishes_6 rfl rfl 0 rfl ?_
  refine v_iload_n (pc' := 8) hc_X3_finishes dX3_finishes_7 rfl rfl 1 rfl ?_
  refine v_iconst (pc' := 9) (v := 1) hc_X3_finishes dX3_finishes_8 rfl rfl ?_
  obtain ⟨c5, e⟩ := gd_of e
  obtain ⟨r6, h7, e8, e⟩ := bd2_of e
  refine k_V (pc' := 12) (ci := 2) (n := 2) hc_X3_finishes ho_X3_finishes rfl c5 (w_X3_roomRow D l hl x0 x1 (1 : Int32) h3 e8) (wA_l q2435) q2437 (wA_l qs44) q85 q2438 hy_168 ⟨Nat.le_of_ble_eq_true rfl, Nat.le_of_ble_eq_true rfl⟩ rfl rfl (Nat.le_of_ble_eq_true rfl) dX3_finishes_9 rfl (kS ?_) kN
  refine v_icmp_ne (pt := 27) (pf := 15) hc_X3_finishes dX3_finishes_12 rfl rfl e (fun _ e => ?_) (fun _ e => ?_)
  · refine v_aload_n (pc' := 16) hc_X3_finishes dX3_finishes_15 rfl rfl 0 rfl ?_
    refine v_iconst (pc' := 17) (v := 4) hc_X3_finishes dX3_finishes_16 rfl rfl ?_
    refine v_aload_n (pc' := 18) hc_X3_finishes dX3_finishes_17 rfl rfl 0 rfl ?_
    refine v_iload_n (pc' := 19) hc_X3_finishes dX3_finishes_18 rfl rfl 1 rfl ?_
    refine v_iconst (pc' := 20) (v := 1) hc_X3_finishes dX3_finishes_19 rfl rfl ?_
    obtain ⟨c9, e⟩ := gd_of e
    obtain ⟨r10, h11, e12, e⟩ := bd2_of e
    refine k_V (pc' := 23) (ci := 2) (n := 2) hc_X3_finishes ho_X3_finishes rfl c9 (w_X3_roomRow D l hl x0 x1 (1 : Int32) h7 e12) (wA_l q2435) q2437 (wA_l qs44) q85 q2438 hy_168 ⟨Nat.le_of_ble_eq_true rfl, Nat.le_of_ble_eq_true rfl⟩ rfl rfl (Nat.le_of_ble_eq_true rfl) dX3_finishes_20 rfl (kS ?_) kN
    obtain ⟨c13, e⟩ := gd_of e
    obtain ⟨r14, h15, e16, e⟩ := bd2_of e
    refine k_V (pc' := 26) (ci := 2) (n := 2) hc_X3_finishes ho_X3_finishes rfl c13 (w_X3_refused D l hl x0 (4 : Int32) r10 h11 e16) (wA_l q2335) q2337 (wA_l qs26) q85 q2338 hy_120 ⟨Nat.le_of_ble_eq_true rfl, Nat.le_of_ble_eq_true rfl⟩ rfl rfl (Nat.le_of_ble_eq_true rfl) dX3_finishes_23 rfl (kS ?_) kN
    obtain ⟨rfl, rfl⟩ := ret_of e
    exact v_iret hc_X3_finishes rfl dX3_finishes_26 rfl rfl
  · refine v_iconst (pc' := 28) (v := 0) hc_X3_finishes dX3_finishes_27 rfl rfl ?_
    refine v_istore_n (pc' := 29) (lv' := [(2, .int (0 : Int32)), (0, .ref x0), (1, .int x1)]) hc_X3_finishes dX3_finishes_28 rfl rfl (Nat.le_of_ble_eq_true rfl) rfl ?_
    refine v_aload_n (pc' := 30) hc_X3_finishes dX3_finishes_29 rfl rfl 1 rfl ?_
    refine v_iload_n (pc' := 31) hc_X3_finishes dX3_finishes_30 rfl rfl 2 rfl ?_
    obtain ⟨c17, e⟩ := gd_of e
    obtain ⟨r18, h19, e20, e⟩ := bd2_of e
    refine k_V (pc' := 34) (ci := 2) (n := 1) hc_X3_finishes ho_X3_finishes rfl c17 (w_X3_best D l hl x0 x1 h7 e20) (wA_l q2526) q2528 (wA_l qs57) q85 q2529 hy_210 ⟨Nat.le_of_ble_eq_true rfl, Nat.le_of_ble_eq_true rfl⟩ rfl rfl (Nat.le_of_ble_eq_true rfl) dX3_finishes_31 rfl (kS ?_) kN
    refine v_istore_n (pc' := 35) (lv' := [(3, .int r18), (2, .int (0 : Int32)), (0, .ref x0), (1, .int x1)]) hc_X3_finishes dX3_finishes_34 rfl rfl (Nat.le_of_ble_eq_true rfl) rfl ?_
    refine v_pick [2, 3, 1, 0] rfl ?_
    exact w_X3_finishes_l35 D l hl as h0 NN x0 x1 (0 : Int32) r18 h19 e
theorem w_X3_finishes (D : va_G) (l : Launch) (hl : l.stackTraces = false) (x0 : Nat) (x1 : Int32) (h : AH) {r : Int32} {hF : AH} (e : f_X3_finishes x0 x1 h = some (r, hF)) : MetV D l yX3_finishes (Cond.code yX3_finishes cX3_finishes 5 (Option.some .int)) 8 212 [.ref x0, .int x1] h hF (oI r) :=
  met_ofF (by decide +kernel) hl (Nat.le_of_ble_eq_true rfl) rfl (v_X3_finishes D l hl [.ref x0, .int x1] h x0 x1 h e)
/-! BlockPapersModel.finish(I)I  -/
abbrev G_X3_finish (D : va_G) (l : Launch) (as : List Value) (h0 hF : AH) (o : Out) : CT := (D, l, (yX3_finish.cls, yX3_finish, cX3_finish, 2, (Option.some .int), 9, 236, []), as, h0, hF, o)
theorem hc_X3_finish {D : va_G} {l : Launch} {as : List Value} {h0 hF : AH} {o : Out} : gC (G_X3_finish D l as h0 hF o) = cX3_finish := rfl
theorem ho_X3_finish {D : va_G} {l : Launch} {as : List Value} {h0 hF : AH} {o : Out} : gO (G_X3_finish D l as h0 hF o) = "BlockPapersModel" := rfl
theorem hp_X3_finish {D : va_G} {l : Launch} {as : List Value} {h0 hF : AH} {o : Out} (pc : Nat) : ∀ z ∈ tableOf (gHd (G_X3_finish D l as h0 hF o)), covers z pc = false := hpN
def f_X3_finish (x0 : Nat) (x1 : Int32) (h : AH) : Option (Int32 × AH) :=
  bd (stF h 2 x0 0 (.int (0 : Int32))) fun h1 =>
  gd (isC h1 2 x0) <|
  bd2 (f_X3_remembers x0 h1) fun r3 h4 =>
  gd (isC h4 2 x0) <|
  bd2 (f_X3_isRoom x0 x1 h4) fun r7 h8 =>
  if r7 = 0 then (
    gd (isC h8 2 x0) <|
    bd2 (f_X3_fails x0 (1 : Int32) h8) fun r11 h12 =>
    some (r11, h12)
  ) else (
    gd (isC h8 2 x0) <|
    bd2 (f_X3_finishes x0 x1 h8) fun r15 h16 =>
    gd (isC h16 2 x0) <|
    bd2 (f_X3_ends x0 r15 (2 : Int32) h16) fun r19 h20 =>
    some (r19, h20)
  )
theorem v_X3_finish (D : va_G) (l : Launch) (hl : l.stackTraces = false) (as : List Value) (h0 : AH) {r : Int32} {hF : AH} (x0 : Nat) (x1 : Int32) (h : AH) (e : f_X3_finish x0 x1 h = some (r, hF)) : V (G_X3_finish D l as h0 hF (oI r)) h 0 [(0, .ref x0), (1, .int x1)] [] := by
  unfold f_X3_finish at e
  refine v_aload_n (pc' := 1) hc_X3_finish dX3_finish_0 rfl rfl 0 rfl ?_
  refine v_iconst (pc' := 2) (v := 0) hc_X3_finish dX3_finish_1 rfl rfl ?_
  refine v_pf (pc' := 5) hc_X3_finish ho_X3_finish KX3 0 (Nat.le_of_ble_eq_true rfl) q2242 (Or.inl rfl) rfl dX3_finish_2 rfl rfl rfl e (fun h1 _ e => ?_)
  refine v_aload_n (pc' := 6) hc_X3_finish dX3_finish_5 rfl rfl 0 rfl ?_
  obtain ⟨c2, e⟩ := gd_of e
  obtain ⟨r3, h4, e5, e⟩ := bd2_of e
  refine k_V (pc' := 9) (ci := 2) (n := 0) hc_X3_finish ho_X3_finish rfl c2 (w_X3_remembers D l hl x0 h1 e5) (wA_l q2324) q2326 (wA_l qs24) q85 q2327 hy_117 ⟨Nat.le_of_ble_eq_true rfl, Nat.le_of_ble_eq_true rfl⟩ rfl rfl (Nat.le_of_ble_eq_true rfl) dX3_finish_6 rfl (kU ?_) kN
  refine v_aload_n (pc' := 10) hc_X3_finish dX3_finish_9 rfl rfl 0 rfl ?_
  refine v_iload_n (pc' := 11) hc_X3_finish dX3_finish_10 rfl rfl 1 rfl ?_
  obtain ⟨c6, e⟩ := gd_of e
  obtain ⟨r7, h8, e9, e⟩ := bd2_of e
  refine k_V (pc' := 14) (ci := 2) (n := 1) hc_X3_finish ho_X3_finish rfl c6 (w_X3_isRoom D l hl x0 x1 h4 e9) (wA_l q2470) q2472 (wA_l qs49) q85 q2473 hy_184 ⟨Nat.le_of_ble_eq_true rfl, Nat.le_of_ble_eq_true rfl⟩ rfl rfl (Nat.le_of_ble_eq_true rfl) dX3_finish_11 rfl (kS ?_) kN
  refine v_if_eq (pt := 30) (pf := 17) hc_X3_finish dX3_finish_14 rfl rfl e (fun _ e => ?_) (fun _ e => ?_)
  · refine v_aload_n (pc' := 31) hc_X3_finish dX3_finish_30 rfl rfl 0 rfl ?_
    refine v_iconst (pc' := 32) (v := 1) hc_X3_finish dX3_finish_31 rfl rfl ?_
    obtain ⟨c10, e⟩ := gd_of e
    obtain ⟨r11, h12, e13, e⟩ := bd2_of e
    refine k_V (pc' := 35) (ci := 2) (n := 1) hc_X3_finish ho_X3_finish rfl c10 (w_X3_fails D l hl x0 (1 : Int32) h8 e13) (wA_l q2351) q2353 (wA_l qs30) q85 q2354 hy_119 ⟨Nat.le_of_ble_eq_true rfl, Nat.le_of_ble_eq_true rfl⟩ rfl rfl (Nat.le_of_ble_eq_true rfl) dX3_finish_32 rfl (kS ?_) kN
    obtain ⟨rfl, rfl⟩ := ret_of e
    exact v_iret hc_X3_finish rfl dX3_finish_35 rfl rfl
  · refine v_aload_n (pc' := 18) hc_X3_finish dX3_finish_17 rfl rfl 0 rfl ?_
    refine v_aload_n (pc' := 19) hc_X3_finish dX3_finish_18 rfl rfl 0 rfl ?_
    refine v_iload_n (pc' := 20) hc_X3_finish dX3_finish_19 rfl rfl 1 rfl ?_
    obtain ⟨c14, e⟩ := gd_of e
    obtain ⟨r15, h16, e17, e⟩ := bd2_of e
    refine k_V (pc' := 23) (ci := 2) (n := 1) hc_X3_finish ho_X3_finish rfl c14 (w_X3_finishes D l hl x0 x1 h8 e17) (wA_l q2534) q2536 (wA_l qs58) q85 q2537 hy_214 ⟨Nat.le_of_ble_eq_true rfl, Nat.le_of_ble_eq_true rfl⟩ rfl rfl (Nat.le_of_ble_eq_true rfl) dX3_finish_20 rfl (kS ?_) kN
    refine v_iconst (pc' := 24) (v := 2) hc_X3_finish dX3_finish_23 rfl rfl ?_
    obtain ⟨c18, e⟩ := gd_of e
    obtain ⟨r19, h20, e21, e⟩ := bd2_of e
    refine k_V (pc' := 27) (ci := 2) (n := 2) hc_X3_finish ho_X3_finish rfl c18 (w_X3_ends D l hl x0 r15 (2 : Int32) h16 e21) (wA_l q2343) q2345 (wA_l qs28) q85 q2346 hy_124 ⟨Nat.le_of_ble_eq_true rfl, Nat.le_of_ble_eq_true rfl⟩ rfl rfl (Nat.le_of_ble_eq_true rfl) dX3_finish_24 rfl (kS ?_) kN
    refine v_goto (pt := 35) hc_X3_finish dX3_finish_27 rfl ?_
    obtain ⟨rfl, rfl⟩ := ret_of e
    exact v_iret hc_X3_finish rfl dX3_finish_35 rfl rfl
theorem w_X3_finish (D : va_G) (l : Launch) (hl : l.stackTraces = false) (x0 : Nat) (x1 : Int32) (h : AH) {r : Int32} {hF : AH} (e : f_X3_finish x0 x1 h = some (r, hF)) : MetV D l yX3_finish (Cond.code yX3_finish cX3_finish 2 (Option.some .int)) 9 236 [.ref x0, .int x1] h hF (oI r) :=
  met_ofF (by decide +kernel) hl (Nat.le_of_ble_eq_true rfl) rfl (v_X3_finish D l hl [.ref x0, .int x1] h x0 x1 h e)
/-! BlockPapersModel.dropsFrom(II)I  -/
abbrev G_X3_dropsFrom (D : va_G) (l : Launch) (as : List Value) (h0 hF : AH) (o : Out) : CT := (D, l, (yX3_dropsFrom.cls, yX3_dropsFrom, cX3_dropsFrom, 5, (Option.some .int), 8, 212, []), as, h0, hF, o)
theorem hc_X3_dropsFrom {D : va_G} {l : Launch} {as : List Value} {h0 hF : AH} {o : Out} : gC (G_X3_dropsFrom D l as h0 hF o) = cX3_dropsFrom := rfl
theorem ho_X3_dropsFrom {D : va_G} {l : Launch} {as : List Value} {h0 hF : AH} {o : Out} : gO (G_X3_dropsFrom D l as h0 hF o) = "BlockPapersModel" := rfl
theorem hp_X3_dropsFrom {D : va_G} {l : Launch} {as : List Value} {h0 hF : AH} {o : Out} (pc : Nat) : ∀ z ∈ tableOf (gHd (G_X3_dropsFrom D l as h0 hF o)), covers z pc = false := hpN
def fb_X3_dropsFrom_l74 (rec : Nat → Int32 → Int32 → AH → Option (Int32 × AH)) (x0 : Nat) (x3 : Int32) (x4 : Int32) (h : AH) : Option (Int32 × AH) :=
  if (793 : Int32) ≤ x4 then (
    some (x3, h)
  ) else (
    bd (gtR h 2 x0 1) fun v1 =>
    bd (gtR h 2 x0 5) fun v2 =>
    bd (ldI h 0 v2 x4) fun v3 =>
    bd (stI h v1 x4 v3) fun h4 =>
    rec x0 x3 (x4 + 1) h4
  )
def f_X3_dropsFrom_l74 : Nat → Nat → Int32 → Int32 → AH → Option (Int32 × AH)
  | 0 => fun _ _ _ _ => none
  | n + 1 => fb_X3_dropsFrom_l74 (f_X3_dropsFrom_l74 n) 
theorem w_X3_dropsFrom_l74 (D : va_G) (l : Launch) (hl : l.stackTraces = false) (as : List Value) (h0 : AH) {r : Int32} {hF : AH} : ∀ (n : Nat) (x0 : Nat) (x3 : Int32) (x4 : Int32) (h : AH), f_X3_dropsFrom_l74 n x0 x3 x4 h = some (r, hF) → V (G_X3_dropsFrom D l as h0 hF (oI r)) h 74 [(0, .ref x0), (3, .int x3), (4, .int x4)] [] := by
  intro n; induction n with
  | zero => intro x0 x3 x4 h e; exact absurd (show (none : Option (Int32 × AH)) = some _ from e) (fun z => nomatch z)
  | succ n IH =>
    intro x0 x3 x4 h e
    have e : fb_X3_dropsFrom_l74 (f_X3_dropsFrom_l74 n) x0 x3 x4 h = some (r, hF) := e
    unfold fb_X3_dropsFrom_l74 at e
    refine v_iload (pc' := 76) hc_X3_dropsFrom dX3_dropsFrom_74 rfl 2 rfl ?_
    refine v_sipush (pc' := 79) (v := 793) hc_X3_dropsFrom dX3_dropsFrom_76 rfl rfl ?_
    refine v_icmp_ge (pt := 102) (pf := 82) hc_X3_dropsFrom dX3_dropsFrom_79 rfl rfl e (fun _ e => ?_) (fun _ e => ?_)
    · refine v_iload_n (pc' := 103) hc_X3_dropsFrom dX3_dropsFrom_102 rfl rfl 1 rfl ?_
      obtain ⟨rfl, rfl⟩ := ret_of e
      exact v_iret hc_X3_dropsFrom rfl dX3_dropsFrom_103 rfl rfl
    · refine v_aload_n (pc' := 83) hc_X3_dropsFrom dX3_dropsFrom_82 rfl rfl 0 rfl ?_
      refine v_gfR (pc' := 86) hc_X3_dropsFrom ho_X3_dropsFrom KX3 1 (Nat.le_of_ble_eq_true rfl) q2243 (Or.inl rfl) dX3_dropsFrom_83 rfl e (fun v1 _ e => ?_)
      refine v_iload (pc' := 88) hc_X3_dropsFrom dX3_dropsFrom_86 rfl 2 rfl ?_
      refine v_aload_n (pc' := 89) hc_X3_dropsFrom dX3_dropsFrom_88 rfl rfl 0 rfl ?_
      refine v_gfR (pc' := 92) hc_X3_dropsFrom ho_X3_dropsFrom KX3 5 (Nat.le_of_ble_eq_true rfl) q2247 (Or.inl rfl) dX3_dropsFrom_89 rfl e (fun v2 _ e => ?_)
      refine v_iload (pc' := 94) hc_X3_dropsFrom dX3_dropsFrom_92 rfl 2 rfl ?_
      refine v_iald (pc' := 95) hc_X3_dropsFrom dX3_dropsFrom_94 rfl e (fun v3 _ e => ?_)
      refine v_iast (pc' := 96) hc_X3_dropsFrom dX3_dropsFrom_95 rfl e (fun h4 _ e => ?_)
      refine v_iinc (pc' := 99) (lv' := [(4, .int (x4 + 1)), (0, .ref x0), (3, .int x3)]) (v := x4 + 1) hc_X3_dropsFrom dX3_dropsFrom_96 rfl 2 rfl rfl (Nat.le_of_ble_eq_true rfl) rfl ?_
      refine v_goto (pt := 74) hc_X3_dropsFrom dX3_dropsFrom_99 rfl ?_
      refine v_pick [1, 2, 0] rfl ?_
      exact IH x0 x3 (x4 + 1) h4 e
def fb_X3_dropsFrom_l56 (rec : Nat → Int32 → Int32 → Int32 → AH → Option (Int32 × AH)) (x0 : Nat) (x1 : Int32) (x2 : Int32) (x3 : Int32) (h : AH) : Option (Int32 × AH) :=
  gd (isC h 2 x0) <|
  bd2 (f_X3_hangs x0 x1 x2 h) fun r2 h3 =>
  if r2 = 0 then (
    rec x0 x1 x2 (x3 + 1) h3
  ) else (
    f_X3_dropsFrom_l74 NN x0 x3 (0 : Int32) h3
  )
def f_X3_dropsFrom_l56 : Nat → Nat → Int32 → Int32 → Int32 → AH → Option (Int32 × AH)
  | 0 => fun _ _ _ _ _ => none
  | n + 1 => fb_X3_dropsFrom_l56 (f_X3_dropsFrom_l56 n) 
theorem w_X3_dropsFrom_l56 (D : va_G) (l : Launch) (hl : l.stackTraces = false) (as : List Value) (h0 : AH) {r : Int32} {hF : AH} : ∀ (n : Nat) (x0 : Nat) (x1 : Int32) (x2 : Int32) (x3 : Int32) (h : AH), f_X3_dropsFrom_l56 n x0 x1 x2 x3 h = some (r, hF) → V (G_X3_dropsFrom D l as h0 hF (oI r)) h 56 [(0, .ref x0), (1, .int x1), (2, .int x2), (3, .int x3)] [] := by
  intro n; induction n with
  | zero => intro x0 x1 x2 x3 h e; exact absurd (show (none : Option (Int32 × AH)) = some _ from e) (fun z => nomatch z)
  | succ n IH =>
    intro x0 x1 x2 x3 h e
    have e : fb_X3_dropsFrom_l56 (f_X3_dropsFrom_l56 n) x0 x1 x2 x3 h = some (r, hF) := e
    unfold fb_X3_dropsFrom_l56 at e
    refine v_aload_n (pc' := 57) hc_X3_dropsFrom dX3_dropsFrom_56 rfl rfl 0 rfl ?_
    refine v_iload_n (pc' := 58) hc_X3_dropsFrom dX3_dropsFrom_57 rfl rfl 1 rfl ?_
    refine v_iload_n (pc' := 59) hc_X3_dropsFrom dX3_dropsFrom_58 rfl rfl 2 rfl ?_
    obtain ⟨c1, e⟩ := gd_of e
    obtain ⟨r2, h3, e4, e⟩ := bd2_of e
    refine k_V (pc' := 62) (ci := 2) (n := 2) hc_X3_dropsFrom ho_X3_dropsFrom rfl c1 (w_X3_hangs D l hl x0 x1 x2 h e4) (wA_l q2494) q2496 (wA_l qs53) q85 q2497 hy_196 ⟨Nat.le_of_ble_eq_true rfl, Nat.le_of_ble_eq_true rfl⟩ rfl rfl (Nat.le_of_ble_eq_true rfl) dX3_dropsFrom_59 rfl (kS ?_) kN
    refine v_if_ne (pt := 71) (pf := 65) hc_X3_dropsFrom dX3_dropsFrom_62 rfl rfl e (fun _ e => ?_) (fun _ e => ?_)
    · refine v_iinc (pc' := 68) (lv' := [(3, .int (x3 + 1)), (0, .ref x0), (1, .int x1), (2, .int x2)]) (v := x3 + 1) hc_X3_dropsFrom dX3_dropsFrom_65 rfl 3 rfl rfl (Nat.le_of_ble_eq_true rfl) rfl ?_
      refine v_goto (pt := 56) hc_X3_dropsFrom dX3_dropsFrom_68 rfl ?_
      refine v_pick [1, 2, 3, 0] rfl ?_
      exact IH x0 x1 x2 (x3 + 1) h3 e
    · refine v_iconst (pc' := 72) (v := 0) hc_X3_dropsFrom dX3_dropsFrom_71 rfl rfl ?_
      refine v_istore (pc' := 74) (lv' := [(4, .int (0 : Int32)), (0, .ref x0), (1, .int x1), (2, .int x2), (3, .int x3)]) hc_X3_dropsFrom dX3_dropsFrom_72 rfl (Nat.le_of_ble_eq_true rfl) rfl ?_
      refine v_pick [1, 4, 0] rfl ?_
      exact w_X3_dropsFrom_l74 D l hl as h0 NN x0 x3 (0 : Int32) h3 e
def fb_X3_dropsFrom_l29 (rec : Nat → Int32 → Int32 → Int32 → AH → Option (Int32 × AH)) (x0 : Nat) (x1 : Int32) (x2 : Int32) (x3 : Int32) (h : AH) : Option (Int32 × AH) :=
  if (793 : Int32) ≤ x3 then (
    f_X3_dropsFrom_l56 NN x0 x1 x2 (0 : Int32) h
  ) else (
    bd (gtR h 2 x0 5) fun v1 =>
    bd (gtR h 2 x0 1) fun v2 =>
    bd (ldI h 0 v2 x3) fun v3 =>
    bd (stI h v1 x3 v3) fun h4 =>
    rec x0 x1 x2 (x3 + 1) h4
  )
def f_X3_dropsFrom_l29 : Nat → Nat → Int32 → Int32 → Int32 → AH → Option (Int32 × AH)
  | 0 => fun _ _ _ _ _ => none
  | n + 1 => fb_X3_dropsFrom_l29 (f_X3_dropsFrom_l29 n) 
theorem w_X3_dropsFrom_l29 (D : va_G) (l : Launch) (hl : l.stackTraces = false) (as : List Value) (h0 : AH) {r : Int32} {hF : AH} : ∀ (n : Nat) (x0 : Nat) (x1 : Int32) (x2 : Int32) (x3 : Int32) (h : AH), f_X3_dropsFrom_l29 n x0 x1 x2 x3 h = some (r, hF) → V (G_X3_dropsFrom D l as h0 hF (oI r)) h 29 [(0, .ref x0), (1, .int x1), (2, .int x2), (3, .int x3)] [] := by
  intro n; induction n with
  | zero => intro x0 x1 x2 x3 h e; exact absurd (show (none : Option (Int32 × AH)) = some _ from e) (fun z => nomatch z)
  | succ n IH =>
    intro x0 x1 x2 x3 h e
    have e : fb_X3_dropsFrom_l29 (f_X3_dropsFrom_l29 n) x0 x1 x2 x3 h = some (r, hF) := e
    unfold fb_X3_dropsFrom_l29 at e
    refine v_iload_n (pc' := 30) hc_X3_dropsFrom dX3_dropsFrom_29 rfl rfl 3 rfl ?_
    refine v_sipush (pc' := 33) (v := 793) hc_X3_dropsFrom dX3_dropsFrom_30 rfl rfl ?_
    refine v_icmp_ge (pt := 54) (pf := 36) hc_X3_dropsFrom dX3_dropsFrom_33 rfl rfl e (fun _ e => ?_) (fun _ e => ?_)
    · refine v_iconst (pc' := 55) (v := 0) hc_X3_dropsFrom dX3_dropsFrom_54 rfl rfl ?_
      refine v_istore_n (pc' := 56) (lv' := [(3, .int (0 : Int32)), (0, .ref x0), (1, .int x1), (2, .int x2)]) hc_X3_dropsFrom dX3_dropsFrom_55 rfl rfl (Nat.le_of_ble_eq_true rfl) rfl ?_
      refine v_pick [1, 2, 3, 0] rfl ?_
      exact w_X3_dropsFrom_l56 D l hl as h0 NN x0 x1 x2 (0 : Int32) h e
    · refine v_aload_n (pc' := 37) hc_X3_dropsFrom dX3_dropsFrom_36 rfl rfl 0 rfl ?_
      refine v_gfR (pc' := 40) hc_X3_dropsFrom ho_X3_dropsFrom KX3 5 (Nat.le_of_ble_eq_true rfl) q2247 (Or.inl rfl) dX3_dropsFrom_37 rfl e (fun v1 _ e => ?_)
      refine v_iload_n (pc' := 41) hc_X3_dropsFrom dX3_dropsFrom_40 rfl rfl 3 rfl ?_
      refine v_aload_n (pc' := 42) hc_X3_dropsFrom dX3_dropsFrom_41 rfl rfl 0 rfl ?_
      refine v_gfR (pc' := 45) hc_X3_dropsFrom ho_X3_dropsFrom KX3 1 (Nat.le_of_ble_eq_true rfl) q2243 (Or.inl rfl) dX3_dropsFrom_42 rfl e (fun v2 _ e => ?_)
      refine v_iload_n (pc' := 46) hc_X3_dropsFrom dX3_dropsFrom_45 rfl rfl 3 rfl ?_
      refine v_iald (pc' := 47) hc_X3_dropsFrom dX3_dropsFrom_46 rfl e (fun v3 _ e => ?_)
      refine v_iast (pc' := 48) hc_X3_dropsFrom dX3_dropsFrom_47 rfl e (fun h4 _ e => ?_)
      refine v_iinc (pc' := 51) (lv' := [(3, .int (x3 + 1)), (0, .ref x0), (1, .int x1), (2, .int x2)]) (v := x3 + 1) hc_X3_dropsFrom dX3_dropsFrom_48 rfl 3 rfl rfl (Nat.le_of_ble_eq_true rfl) rfl ?_
      refine v_goto (pt := 29) hc_X3_dropsFrom dX3_dropsFrom_51 rfl ?_
      refine v_pick [1, 2, 3, 0] rfl ?_
      exact IH x0 x1 x2 (x3 + 1) h4 e
def f_X3_dropsFrom (x0 : Nat) (x1 : Int32) (x2 : Int32) (h : AH) : Option (Int32 × AH) :=
  bd (stF h 2 x0 0 (.int (0 : Int32))) fun h1 =>
  gd (isC h1 2 x0) <|
  bd2 (f_X3_isRoom x0 x1 h1) fun r3 h4 =>
  if r3 = 0 then (
    gd (isC h4 2 x0) <|
    bd2 (f_X3_fails x0 (1 : Int32) h4) fun r7 h8 =>
    some (r7, h8)
  ) else (
    gd (isC h4 2 x0) <|
    bd2 (f_X3_isRoll x0 x2 h4) fun r11 h12 =>
    if r11 = 0 then (
      gd (isC h12 2 x0) <|
      bd2 (f_X3_fails x0 (1 : Int32) h12) fun r15 h16 =>
      some (r15, h16)
    ) else (
      f_X3_dropsFrom_l29 NN x0 x1 x2 (0 : Int32) h12
    )
  )
theorem v_X3_dropsFrom (D : va_G) (l : Launch) (hl : l.stackTraces = false) (as : List Value) (h0 : AH) {r : Int32} {hF : AH} (x0 : Nat) (x1 : Int32) (x2 : Int32) (h : AH) (e : f_X3_dropsFrom x0 x1 x2 h = some (r, hF)) : V (G_X3_dropsFrom D l as h0 hF (oI r)) h 0 [(0, .ref x0), (1, .int x1), (2, .int x2)] [] := by
  unfold f_X3_dropsFrom at e
  refine v_aload_n (pc' := 1) hc_X3_dropsFrom dX3_dropsFrom_0 rfl rfl 0 rfl ?_
  refine v_iconst (pc' := 2) (v := 0) hc_X3_dropsFrom dX3_dropsFrom_1 rfl rfl ?_
  refine v_pf (pc' := 5) hc_X3_dropsFrom ho_X3_dropsFrom KX3 0 (Nat.le_of_ble_eq_true rfl) q2242 (Or.inl rfl) rfl dX3_dropsFrom_2 rfl rfl rfl e (fun h1 _ e => ?_)
  refine v_aload_n (pc' := 6) hc_X3_dropsFrom dX3_dropsFrom_5 rfl rfl 0 rfl ?_
  refine v_iload_n (pc' := 7) hc_X3_dropsFrom dX3_dropsFrom_6 rfl rfl 1 rfl ?_
  obtain ⟨c2, e⟩ := gd_of e
  obtain ⟨r3, h4, e5, e⟩ := bd2_of e
  refine k_V (pc' := 10) (ci := 2) (n := 1) hc_X3_dropsFrom ho_X3_dropsFrom rfl c2 (w_X3_isRoom D l hl x0 x1 h1 e5) (wA_l q2470) q2472 (wA_l qs49) q85 q2473 hy_184 ⟨Nat.le_of_ble_eq_true rfl, Nat.le_of_ble_eq_true rfl⟩ rfl rfl (Nat.le_of_ble_eq_true rfl) dX3_dropsFrom_7 rfl (kS ?_) kN
  refine v_if_eq (pt := 21) (pf := 13) hc_X3_dropsFrom dX3_dropsFrom_10 rfl rfl e (fun _ e => ?_) (fun _ e => ?_)
  · refine v_aload_n (pc' := 22) hc_X3_dropsFrom dX3_dropsFrom_21 rfl rfl 0 rfl ?_
    refine v_iconst (pc' := 23) (v := 1) hc_X3_dropsFrom dX3_dropsFrom_22 rfl rfl ?_
    obtain ⟨c6, e⟩ := gd_of e
    obtain ⟨r7, h8, e9, e⟩ := bd2_of e
    refine k_V (pc' := 26) (ci := 2) (n := 1) hc_X3_dropsFrom ho_X3_dropsFrom rfl c6 (w_X3_fails D l hl x0 (1 : Int32) h4 e9) (wA_l q2351) q2353 (wA_l qs30) q85 q2354 hy_119 ⟨Nat.le_of_ble_eq_true rfl, Nat.le_of_ble_eq_true rfl⟩ rfl rfl (Nat.le_of_ble_eq_true rfl) dX3_dropsFrom_23 rfl (kS ?_) kN
    obtain ⟨rfl, rfl⟩ := ret_of e
    exact v_iret hc_X3_dropsFrom rfl dX3_dropsFrom_26 rfl rfl
  · refine v_aload_n (pc' := 14) hc_X3_dropsFrom dX3_dropsFrom_13 rfl rfl 0 rfl ?_
    refine v_iload_n (pc' := 15) hc_X3_dropsFrom dX3_dropsFrom_14 rfl rfl 2 rfl ?_
    obtain ⟨c10, e⟩ := gd_of e
    obtain ⟨r11, h12, e13, e⟩ := bd2_of e
    refine k_V (pc' := 18) (ci := 2) (n := 1) hc_X3_dropsFrom ho_X3_dropsFrom rfl c10 (w_X3_isRoll D l hl x0 x2 h4 e13) (wA_l q2415) q2417 (wA_l qs39) q85 q2418 hy_164 ⟨Nat.le_of_ble_eq_true rfl, Nat.le_of_ble_eq_true rfl⟩ rfl rfl (Nat.le_of_ble_eq_true rfl) dX3_dropsFrom_15 rfl (kS ?_) kN
    refine v_if_ne (pt := 27) (pf := 21) hc_X3_dropsFrom dX3_dropsFrom_18 rfl rfl e (fun _ e => ?_) (fun _ e => ?_)
    · refine v_aload_n (pc' := 22) hc_X3_dropsFrom dX3_dropsFrom_21 rfl rfl 0 rfl ?_
      refine v_iconst (pc' := 23) (v := 1) hc_X3_dropsFrom dX3_dropsFrom_22 rfl rfl ?_
      obtain ⟨c14, e⟩ := gd_of e
      obtain ⟨r15, h16, e17, e⟩ := bd2_of e
      refine k_V (pc' := 26) (ci := 2) (n := 1) hc_X3_dropsFrom ho_X3_dropsFrom rfl c14 (w_X3_fails D l hl x0 (1 : Int32) h12 e17) (wA_l q2351) q2353 (wA_l qs30) q85 q2354 hy_119 ⟨Nat.le_of_ble_eq_true rfl, Nat.le_of_ble_eq_true rfl⟩ rfl rfl (Nat.le_of_ble_eq_true rfl) dX3_dropsFrom_23 rfl (kS ?_) kN
      obtain ⟨rfl, rfl⟩ := ret_of e
      exact v_iret hc_X3_dropsFrom rfl dX3_dropsFrom_26 rfl rfl
    · refine v_iconst (pc' := 28) (v := 0) hc_X3_dropsFrom dX3_dropsFrom_27 rfl rfl ?_
      refine v_istore_n (pc' := 29) (lv' := [(3, .int (0 : Int32)), (0, .ref x0), (1, .int x1), (2, .int x2)]) hc_X3_dropsFrom dX3_dropsFrom_28 rfl rfl (Nat.le_of_ble_eq_true rfl) rfl ?_
      refine v_pick [1, 2, 3, 0] rfl ?_
      exact w_X3_dropsFrom_l29 D l hl as h0 NN x0 x1 x2 (0 : Int32) h12 e
theorem w_X3_dropsFrom (D : va_G) (l : Launch) (hl : l.stackTraces = false) (x0 : Nat) (x1 : Int32) (x2 : Int32) (h : AH) {r : Int32} {hF : AH} (e : f_X3_dropsFrom x0 x1 x2 h = some (r, hF)) : MetV D l yX3_dropsFrom (Cond.code yX3_dropsFrom cX3_dropsFrom 5 (Option.some .int)) 8 212 [.ref x0, .int x1, .int x2] h hF (oI r) :=
  met_ofF (by decide +kernel) hl (Nat.le_of_ble_eq_true rfl) rfl (v_X3_dropsFrom D l hl [.ref x0, .int x1, .int x2] h x0 x1 x2 h e)
/-! BlockPapersModel.dropsAgain(II)I  -/
abbrev G_X3_dropsAgain (D : va_G) (l : Launch) (as : List Value) (h0 hF : AH) (o : Out) : CT := (D, l, (yX3_dropsAgain.cls, yX3_dropsAgain, cX3_dropsAgain, 3, (Option.some .int), 9, 236, []), as, h0, hF, o)
theorem hc_X3_dropsAgain {D : va_G} {l : Launch} {as : List Value} {h0 hF : AH} {o : Out} : gC (G_X3_dropsAgain D l as h0 hF o) = cX3_dropsAgain := rfl
theorem ho_X3_dropsAgain {D : va_G} {l : Launch} {as : List Value} {h0 hF : AH} {o : Out} : gO (G_X3_dropsAgain D l as h0 hF o) = "BlockPapersModel" := rfl
theorem hp_X3_dropsAgain {D : va_G} {l : Launch} {as : List Value} {h0 hF : AH} {o : Out} (pc : Nat) : ∀ z ∈ tableOf (gHd (G_X3_dropsAgain D l as h0 hF o)), covers z pc = false := hpN
def f_X3_dropsAgain (x0 : Nat) (x1 : Int32) (x2 : Int32) (h : AH) : Option (Int32 × AH) :=
  gd (isC h 2 x0) <|
  bd2 (f_X3_dropsFrom x0 x1 x2 h) fun r2 h3 =>
  some (r2, h3)
theorem v_X3_dropsAgain (D : va_G) (l : Launch) (hl : l.stackTraces = false) (as : List Value) (h0 : AH) {r : Int32} {hF : AH} (x0 : Nat) (x1 : Int32) (x2 : Int32) (h : AH) (e : f_X3_dropsAgain x0 x1 x2 h = some (r, hF)) : V (G_X3_dropsAgain D l as h0 hF (oI r)) h 0 [(0, .ref x0), (1, .int x1), (2, .int x2)] [] := by
  unfold f_X3_dropsAgain at e
  refine v_aload_n (pc' := 1) hc_X3_dropsAgain dX3_dropsAgain_0 rfl rfl 0 rfl ?_
  refine v_iload_n (pc' := 2) hc_X3_dropsAgain dX3_dropsAgain_1 rfl rfl 1 rfl ?_
  refine v_iload_n (pc' := 3) hc_X3_dropsAgain dX3_dropsAgain_2 rfl rfl 2 rfl ?_
  obtain ⟨c1, e⟩ := gd_of e
  obtain ⟨r2, h3, e4, e⟩ := bd2_of e
  refine k_V (pc' := 6) (ci := 2) (n := 2) hc_X3_dropsAgain ho_X3_dropsAgain rfl c1 (w_X3_dropsFrom D l hl x0 x1 x2 h e4) (wA_l q2546) q2539 (wA_l q2540) q85 q2541 hy_219 ⟨Nat.le_of_ble_eq_true rfl, Nat.le_of_ble_eq_true rfl⟩ rfl rfl (Nat.le_of_ble_eq_true rfl) dX3_dropsAgain_3 rfl (kS ?_) kN
  obtain ⟨rfl, rfl⟩ := ret_of e
  exact v_iret hc_X3_dropsAgain rfl dX3_dropsAgain_6 rfl rfl
theorem w_X3_dropsAgain (D : va_G) (l : Launch) (hl : l.stackTraces = false) (x0 : Nat) (x1 : Int32) (x2 : Int32) (h : AH) {r : Int32} {hF : AH} (e : f_X3_dropsAgain x0 x1 x2 h = some (r, hF)) : MetV D l yX3_dropsAgain (Cond.code yX3_dropsAgain cX3_dropsAgain 3 (Option.some .int)) 9 236 [.ref x0, .int x1, .int x2] h hF (oI r) :=
  met_ofF (by decide +kernel) hl (Nat.le_of_ble_eq_true rfl) rfl (v_X3_dropsAgain D l hl [.ref x0, .int x1, .int x2] h x0 x1 x2 h e)
/-! BlockPapersModel.puts(I)V  -/
abbrev G_X3_puts (D : va_G) (l : Launch) (as : List Value) (h0 hF : AH) (o : Out) : CT := (D, l, (yX3_puts.cls, yX3_puts, cX3_puts, 2, (Option.none : Option FieldType), 1, 48, []), as, h0, hF, o)
theorem hc_X3_puts {D : va_G} {l : Launch} {as : List Value} {h0 hF : AH} {o : Out} : gC (G_X3_puts D l as h0 hF o) = cX3_puts := rfl
theorem ho_X3_puts {D : va_G} {l : Launch} {as : List Value} {h0 hF : AH} {o : Out} : gO (G_X3_puts D l as h0 hF o) = "BlockPapersModel" := rfl
theorem hp_X3_puts {D : va_G} {l : Launch} {as : List Value} {h0 hF : AH} {o : Out} (pc : Nat) : ∀ z ∈ tableOf (gHd (G_X3_puts D l as h0 hF o)), covers z pc = false := hpN
def f_X3_puts (x0 : Nat) (x1 : Int32) (h : AH) : Option (Unit × AH) :=
  bd (gtR h 2 x0 10) fun v1 =>
  bd (gtI h 2 x0 12) fun v2 =>
  bd (stI h v1 v2 x1) fun h3 =>
  bd (gtI h3 2 x0 12) fun v4 =>
  bd (stF h3 2 x0 12 (.int (v4 + (1 : Int32)))) fun h5 =>
  some ((), h5)
theorem v_X3_puts (D : va_G) (l : Launch) (hl : l.stackTraces = false) (as : List Value) (h0 : AH) {r : Unit} {hF : AH} (x0 : Nat) (x1 : Int32) (h : AH) (e : f_X3_puts x0 x1 h = some (r, hF)) : V (G_X3_puts D l as h0 hF (oV r)) h 0 [(0, .ref x0), (1, .int x1)] [] := by
  unfold f_X3_puts at e
  refine v_aload_n (pc' := 1) hc_X3_puts dX3_puts_0 rfl rfl 0 rfl ?_
  refine v_gfR (pc' := 4) hc_X3_puts ho_X3_puts KX3 10 (Nat.le_of_ble_eq_true rfl) q2252 (Or.inl rfl) dX3_puts_1 rfl e (fun v1 _ e => ?_)
  refine v_aload_n (pc' := 5) hc_X3_puts dX3_puts_4 rfl rfl 0 rfl ?_
  refine v_gfI (pc' := 8) hc_X3_puts ho_X3_puts KX3 12 (Nat.le_of_ble_eq_true rfl) q2254 (Or.inl rfl) dX3_puts_5 rfl e (fun v2 _ e => ?_)
  refine v_iload_n (pc' := 9) hc_X3_puts dX3_puts_8 rfl rfl 1 rfl ?_
  refine v_iast (pc' := 10) hc_X3_puts dX3_puts_9 rfl e (fun h3 _ e => ?_)
  refine v_aload_n (pc' := 11) hc_X3_puts dX3_puts_10 rfl rfl 0 rfl ?_
  refine v_dup (pc' := 12) hc_X3_puts dX3_puts_11 rfl rfl ?_
  refine v_gfI (pc' := 15) hc_X3_puts ho_X3_puts KX3 12 (Nat.le_of_ble_eq_true rfl) q2254 (Or.inl rfl) dX3_puts_12 rfl e (fun v4 _ e => ?_)
  refine v_iconst (pc' := 16) (v := 1) hc_X3_puts dX3_puts_15 rfl rfl ?_
  refine v_iadd (pc' := 17) hc_X3_puts dX3_puts_16 rfl ?_
  refine v_pf (pc' := 20) hc_X3_puts ho_X3_puts KX3 12 (Nat.le_of_ble_eq_true rfl) q2254 (Or.inl rfl) rfl dX3_puts_17 rfl rfl rfl e (fun h5 _ e => ?_)
  obtain ⟨rfl, rfl⟩ := ret_of e
  exact v_ret hc_X3_puts rfl dX3_puts_20 rfl rfl
theorem w_X3_puts (D : va_G) (l : Launch) (hl : l.stackTraces = false) (x0 : Nat) (x1 : Int32) (h : AH) {r : Unit} {hF : AH} (e : f_X3_puts x0 x1 h = some (r, hF)) : MetV D l yX3_puts (Cond.code yX3_puts cX3_puts 2 (Option.none : Option FieldType)) 1 48 [.ref x0, .int x1] h hF (oV r) :=
  met_ofF (by decide +kernel) hl (Nat.le_of_ble_eq_true rfl) rfl (v_X3_puts D l hl [.ref x0, .int x1] h x0 x1 h e)
/-! BlockPapersModel.putsNumber(I)V  -/
abbrev G_X3_putsNumber (D : va_G) (l : Launch) (as : List Value) (h0 hF : AH) (o : Out) : CT := (D, l, (yX3_putsNumber.cls, yX3_putsNumber, cX3_putsNumber, 4, (Option.none : Option FieldType), 2, 69, []), as, h0, hF, o)
theorem hc_X3_putsNumber {D : va_G} {l : Launch} {as : List Value} {h0 hF : AH} {o : Out} : gC (G_X3_putsNumber D l as h0 hF o) = cX3_putsNumber := rfl
theorem ho_X3_putsNumber {D : va_G} {l : Launch} {as : List Value} {h0 hF : AH} {o : Out} : gO (G_X3_putsNumber D l as h0 hF o) = "BlockPapersModel" := rfl
theorem hp_X3_putsNumber {D : va_G} {l : Launch} {as : List Value} {h0 hF : AH} {o : Out} (pc : Nat) : ∀ z ∈ tableOf (gHd (G_X3_putsNumber D l as h0 hF o)), covers z pc = false := hpN
def fb_X3_putsNumber_l20 (rec : Nat → Int32 → Int32 → AH → Option (Unit × AH)) (x0 : Nat) (x1 : Int32) (x3 : Int32) (h : AH) : Option (Unit × AH) :=
  if x3 ≤ 0 then (
    some ((), h)
  ) else (
    gd (decide (¬ x3 = 0)) <|
    gd (isC h 2 x0) <|
    bd2 (f_X3_puts x0 ((48 : Int32) + ((x1 / x3) - (x1 / x3) / (10 : Int32) * (10 : Int32))) h) fun r3 h4 =>
    rec x0 x1 (x3 / (10 : Int32)) h4
  )
def f_X3_putsNumber_l20 : Nat → Nat → Int32 → Int32 → AH → Option (Unit × AH)
  | 0 => fun _ _ _ _ => none
  | n + 1 => fb_X3_putsNumber_l20 (f_X3_putsNumber_l20 n) 
theorem w_X3_putsNumber_l20 (D : va_G) (l : Launch) (hl : l.stackTraces = false) (as : List Value) (h0 : AH) {r : Unit} {hF : AH} : ∀ (n : Nat) (x0 : Nat) (x1 : Int32) (x3 : Int32) (h : AH), f_X3_putsNumber_l20 n x0 x1 x3 h = some (r, hF) → V (G_X3_putsNumber D l as h0 hF (oV r)) h 20 [(0, .ref x0), (1, .int x1), (3, .int x3)] [] := by
  intro n; induction n with
  | zero => intro x0 x1 x3 h e; exact absurd (show (none : Option (Unit × AH)) = some _ from e) (fun z => nomatch z)
  | succ n IH =>
    intro x0 x1 x3 h e
    have e : fb_X3_putsNumber_l20 (f_X3_putsNumber_l20 n) x0 x1 x3 h = some (r, hF) := e
    unfold fb_X3_putsNumber_l20 at e
    refine v_iload_n (pc' := 21) hc_X3_putsNumber dX3_putsNumber_20 rfl rfl 2 rfl ?_
    refine v_if_le (pt := 45) (pf := 24) hc_X3_putsNumber dX3_putsNumber_21 rfl rfl e (fun _ e => ?_) (fun _ e => ?_)
    · obtain ⟨rfl, rfl⟩ := ret_of e
      exact v_ret hc_X3_putsNumber rfl dX3_putsNumber_45 rfl rfl
    · refine v_aload_n (pc' := 25) hc_X3_putsNumber dX3_putsNumber_24 rfl rfl 0 rfl ?_
      refine v_bipush (pc' := 27) (v := 48) hc_X3_putsNumber dX3_putsNumber_25 rfl rfl ?_
      refine v_iload_n (pc' := 28) hc_X3_putsNumber dX3_putsNumber_27 rfl rfl 1 rfl ?_
      refine v_iload_n (pc' := 29) hc_X3_putsNumber dX3_putsNumber_28 rfl rfl 2 rfl ?_
      obtain ⟨c1, e⟩ := gd_of e
      refine v_idiv (pc' := 30) hc_X3_putsNumber dX3_putsNumber_29 rfl (of_decide_eq_true c1) ?_
      refine v_bipush (pc' := 32) (v := 10) hc_X3_putsNumber dX3_putsNumber_30 rfl rfl ?_
      refine v_irem (pc' := 33) hc_X3_putsNumber dX3_putsNumber_32 rfl (by decide) ?_
      refine v_iadd (pc' := 34) hc_X3_putsNumber dX3_putsNumber_33 rfl ?_
      obtain ⟨c2, e⟩ := gd_of e
      obtain ⟨r3, h4, e5, e⟩ := bd2_of e
      refine k_V (pc' := 37) (ci := 2) (n := 1) hc_X3_putsNumber ho_X3_putsNumber rfl c2 (w_X3_puts D l hl x0 ((48 : Int32) + ((x1 / x3) - (x1 / x3) / (10 : Int32) * (10 : Int32))) h e5) (wA_l q2555) q2557 (wA_l qs60) q85 q2558 hy_254 ⟨Nat.le_of_ble_eq_true rfl, Nat.le_of_ble_eq_true rfl⟩ rfl rfl (Nat.le_of_ble_eq_true rfl) dX3_putsNumber_34 rfl (kU ?_) kN
      refine v_iload_n (pc' := 38) hc_X3_putsNumber dX3_putsNumber_37 rfl rfl 2 rfl ?_
      refine v_bipush (pc' := 40) (v := 10) hc_X3_putsNumber dX3_putsNumber_38 rfl rfl ?_
      refine v_idiv (pc' := 41) hc_X3_putsNumber dX3_putsNumber_40 rfl (by decide) ?_
      refine v_istore_n (pc' := 42) (lv' := [(3, .int (x3 / (10 : Int32))), (0, .ref x0), (1, .int x1)]) hc_X3_putsNumber dX3_putsNumber_41 rfl rfl (Nat.le_of_ble_eq_true rfl) rfl ?_
      refine v_goto (pt := 20) hc_X3_putsNumber dX3_putsNumber_42 rfl ?_
      refine v_pick [1, 2, 0] rfl ?_
      exact IH x0 x1 (x3 / (10 : Int32)) h4 e
def fb_X3_putsNumber_l2 (rec : Nat → Int32 → Int32 → AH → Option (Unit × AH)) (x0 : Nat) (x1 : Int32) (x2 : Int32) (h : AH) : Option (Unit × AH) :=
  gd (decide (¬ x2 = 0)) <|
  if (x1 / x2) ≤ (9 : Int32) then (
    f_X3_putsNumber_l20 NN x0 x1 x2 h
  ) else (
    rec x0 x1 (x2 * (10 : Int32)) h
  )
def f_X3_putsNumber_l2 : Nat → Nat → Int32 → Int32 → AH → Option (Unit × AH)
  | 0 => fun _ _ _ _ => none
  | n + 1 => fb_X3_putsNumber_l2 (f_X3_putsNumber_l2 n) 
theorem w_X3_putsNumber_l2 (D : va_G) (l : Launch) (hl : l.stackTraces = false) (as : List Value) (h0 : AH) {r : Unit} {hF : AH} : ∀ (n : Nat) (x0 : Nat) (x1 : Int32) (x2 : Int32) (h : AH), f_X3_putsNumber_l2 n x0 x1 x2 h = some (r, hF) → V (G_X3_putsNumber D l as h0 hF (oV r)) h 2 [(0, .ref x0), (1, .int x1), (2, .int x2)] [] := by
  intro n; induction n with
  | zero => intro x0 x1 x2 h e; exact absurd (show (none : Option (Unit × AH)) = some _ from e) (fun z => nomatch z)
  | succ n IH =>
    intro x0 x1 x2 h e
    have e : fb_X3_putsNumber_l2 (f_X3_putsNumber_l2 n) x0 x1 x2 h = some (r, hF) := e
    unfold fb_X3_putsNumber_l2 at e
    refine v_iload_n (pc' := 3) hc_X3_putsNumber dX3_putsNumber_2 rfl rfl 1 rfl ?_
    refine v_iload_n (pc' := 4) hc_X3_putsNumber dX3_putsNumber_3 rfl rfl 2 rfl ?_
    obtain ⟨c1, e⟩ := gd_of e
    refine v_idiv (pc' := 5) hc_X3_putsNumber dX3_putsNumber_4 rfl (of_decide_eq_true c1) ?_
    refine v_bipush (pc' := 7) (v := 9) hc_X3_putsNumber dX3_putsNumber_5 rfl rfl ?_
    refine v_icmp_le (pt := 18) (pf := 10) hc_X3_putsNumber dX3_putsNumber_7 rfl rfl e (fun _ e => ?_) (fun _ e => ?_)
    · refine v_iload_n (pc' := 19) hc_X3_putsNumber dX3_putsNumber_18 rfl rfl 2 rfl ?_
      refine v_istore_n (pc' := 20) (lv' := [(3, .int x2), (0, .ref x0), (1, .int x1), (2, .int x2)]) hc_X3_putsNumber dX3_putsNumber_19 rfl rfl (Nat.le_of_ble_eq_true rfl) rfl ?_
      refine v_pick [1, 2, 0] rfl ?_
      exact w_X3_putsNumber_l20 D l hl as h0 NN x0 x1 x2 h e
    · refine v_iload_n (pc' := 11) hc_X3_putsNumber dX3_putsNumber_10 rfl rfl 2 rfl ?_
      refine v_bipush (pc' := 13) (v := 10) hc_X3_putsNumber dX3_putsNumber_11 rfl rfl ?_
      refine v_imul (pc' := 14) hc_X3_putsNumber dX3_putsNumber_13 rfl ?_
      refine v_istore_n (pc' := 15) (lv' := [(2, .int (x2 * (10 : Int32))), (0, .ref x0), (1, .int x1)]) hc_X3_putsNumber dX3_putsNumber_14 rfl rfl (Nat.le_of_ble_eq_true rfl) rfl ?_
      refine v_goto (pt := 2) hc_X3_putsNumber dX3_putsNumber_15 rfl ?_
      refine v_pick [1, 2, 0] rfl ?_
      exact IH x0 x1 (x2 * (10 : Int32)) h e
def f_X3_putsNumber (x0 : Nat) (x1 : Int32) (h : AH) : Option (Unit × AH) :=
  f_X3_putsNumber_l2 NN x0 x1 (1 : Int32) h
theorem v_X3_putsNumber (D : va_G) (l : Launch) (hl : l.stackTraces = false) (as : List Value) (h0 : AH) {r : Unit} {hF : AH} (x0 : Nat) (x1 : Int32) (h : AH) (e : f_X3_putsNumber x0 x1 h = some (r, hF)) : V (G_X3_putsNumber D l as h0 hF (oV r)) h 0 [(0, .ref x0), (1, .int x1)] [] := by
  unfold f_X3_putsNumber at e
  refine v_iconst (pc' := 1) (v := 1) hc_X3_putsNumber dX3_putsNumber_0 rfl rfl ?_
  refine v_istore_n (pc' := 2) (lv' := [(2, .int (1 : Int32)), (0, .ref x0), (1, .int x1)]) hc_X3_putsNumber dX3_putsNumber_1 rfl rfl (Nat.le_of_ble_eq_true rfl) rfl ?_
  refine v_pick [1, 2, 0] rfl ?_
  exact w_X3_putsNumber_l2 D l hl as h0 NN x0 x1 (1 : Int32) h e
theorem w_X3_putsNumber (D : va_G) (l : Launch) (hl : l.stackTraces = false) (x0 : Nat) (x1 : Int32) (h : AH) {r : Unit} {hF : AH} (e : f_X3_putsNumber x0 x1 h = some (r, hF)) : MetV D l yX3_putsNumber (Cond.code yX3_putsNumber cX3_putsNumber 4 (Option.none : Option FieldType)) 2 69 [.ref x0, .int x1] h hF (oV r) :=
  met_ofF (by decide +kernel) hl (Nat.le_of_ble_eq_true rfl) rfl (v_X3_putsNumber D l hl [.ref x0, .int x1] h x0 x1 h e)
/-! BlockPapersModel.putsWord(Ljava/lang/String;)V  -/
abbrev G_X3_putsWord (D : va_G) (l : Launch) (as : List Value) (h0 hF : AH) (o : Out) : CT := (D, l, (yX3_putsWord.cls, yX3_putsWord, cX3_putsWord, 3, (Option.none : Option FieldType), 6, 154, []), as, h0, hF, o)
theorem hc_X3_putsWord {D : va_G} {l : Launch} {as : List Value} {h0 hF : AH} {o : Out} : gC (G_X3_putsWord D l as h0 hF o) = cX3_putsWord := rfl
theorem ho_X3_putsWord {D : va_G} {l : Launch} {as : List Value} {h0 hF : AH} {o : Out} : gO (G_X3_putsWord D l as h0 hF o) = "BlockPapersModel" := rfl
theorem hp_X3_putsWord {D : va_G} {l : Launch} {as : List Value} {h0 hF : AH} {o : Out} (pc : Nat) : ∀ z ∈ tableOf (gHd (G_X3_putsWord D l as h0 hF o)), covers z pc = false := hpN
def fb_X3_putsWord_l2 (rec : Nat → Nat → Int32 → AH → Option (Unit × AH)) (x0 : Nat) (x1 : Nat) (x2 : Int32) (h : AH) : Option (Unit × AH) :=
  gd (isC h 19 x1) <|
  bd2 (f_J6_length x1 h) fun r2 h3 =>
  if r2 ≤ x2 then (
    some ((), h3)
  ) else (
    gd (isC h3 19 x1) <|
    bd2 (f_J6_charAt x1 x2 h3) fun r6 h7 =>
    gd (isC h7 2 x0) <|
    bd2 (f_X3_puts x0 r6 h7) fun r10 h11 =>
    rec x0 x1 (x2 + 1) h11
  )
def f_X3_putsWord_l2 : Nat → Nat → Nat → Int32 → AH → Option (Unit × AH)
  | 0 => fun _ _ _ _ => none
  | n + 1 => fb_X3_putsWord_l2 (f_X3_putsWord_l2 n) 
theorem w_X3_putsWord_l2 (D : va_G) (l : Launch) (hl : l.stackTraces = false) (as : List Value) (h0 : AH) {r : Unit} {hF : AH} : ∀ (n : Nat) (x0 : Nat) (x1 : Nat) (x2 : Int32) (h : AH), f_X3_putsWord_l2 n x0 x1 x2 h = some (r, hF) → V (G_X3_putsWord D l as h0 hF (oV r)) h 2 [(0, .ref x0), (1, .ref x1), (2, .int x2)] [] := by
  intro n; induction n with
  | zero => intro x0 x1 x2 h e; exact absurd (show (none : Option (Unit × AH)) = some _ from e) (fun z => nomatch z)
  | succ n IH =>
    intro x0 x1 x2 h e
    have e : fb_X3_putsWord_l2 (f_X3_putsWord_l2 n) x0 x1 x2 h = some (r, hF) := e
    unfold fb_X3_putsWord_l2 at e
    refine v_iload_n (pc' := 3) hc_X3_putsWord dX3_putsWord_2 rfl rfl 2 rfl ?_
    refine v_aload_n (pc' := 4) hc_X3_putsWord dX3_putsWord_3 rfl rfl 1 rfl ?_
    obtain ⟨c1, e⟩ := gd_of e
    obtain ⟨r2, h3, e4, e⟩ := bd2_of e
    refine k_V (pc' := 7) (ci := 19) (n := 0) hc_X3_putsWord ho_X3_putsWord rfl c1 (w_J6_length D l hl x1 h e4) (wA_l q2564) q697 (wA_l q698) q83 q699 hy_232 ⟨Nat.le_of_ble_eq_true rfl, Nat.le_of_ble_eq_true rfl⟩ rfl rfl (Nat.le_of_ble_eq_true rfl) dX3_putsWord_4 rfl (kS ?_) kN
    refine v_icmp_ge (pt := 25) (pf := 10) hc_X3_putsWord dX3_putsWord_7 rfl rfl e (fun _ e => ?_) (fun _ e => ?_)
    · obtain ⟨rfl, rfl⟩ := ret_of e
      exact v_ret hc_X3_putsWord rfl dX3_putsWord_25 rfl rfl
    · refine v_aload_n (pc' := 11) hc_X3_putsWord dX3_putsWord_10 rfl rfl 0 rfl ?_
      refine v_aload_n (pc' := 12) hc_X3_putsWord dX3_putsWord_11 rfl rfl 1 rfl ?_
      refine v_iload_n (pc' := 13) hc_X3_putsWord dX3_putsWord_12 rfl rfl 2 rfl ?_
      obtain ⟨c5, e⟩ := gd_of e
      obtain ⟨r6, h7, e8, e⟩ := bd2_of e
      refine k_V (pc' := 16) (ci := 19) (n := 1) hc_X3_putsWord ho_X3_putsWord rfl c5 (w_J6_charAt D l hl x1 x2 h3 e8) (wA_l q2565) q1826 (wA_l q1827) q83 q1828 hy_262 ⟨Nat.le_of_ble_eq_true rfl, Nat.le_of_ble_eq_true rfl⟩ rfl rfl (Nat.le_of_ble_eq_true rfl) dX3_putsWord_13 rfl (kS ?_) kN
      obtain ⟨c9, e⟩ := gd_of e
      obtain ⟨r10, h11, e12, e⟩ := bd2_of e
      refine k_V (pc' := 19) (ci := 2) (n := 1) hc_X3_putsWord ho_X3_putsWord rfl c9 (w_X3_puts D l hl x0 r6 h7 e12) (wA_l q2555) q2557 (wA_l qs60) q85 q2558 hy_254 ⟨Nat.le_of_ble_eq_true rfl, Nat.le_of_ble_eq_true rfl⟩ rfl rfl (Nat.le_of_ble_eq_true rfl) dX3_putsWord_16 rfl (kU ?_) kN
      refine v_iinc (pc' := 22) (lv' := [(2, .int (x2 + 1)), (0, .ref x0), (1, .ref x1)]) (v := x2 + 1) hc_X3_putsWord dX3_putsWord_19 rfl 2 rfl rfl (Nat.le_of_ble_eq_true rfl) rfl ?_
      refine v_goto (pt := 2) hc_X3_putsWord dX3_putsWord_22 rfl ?_
      refine v_pick [1, 2, 0] rfl ?_
      exact IH x0 x1 (x2 + 1) h11 e
def f_X3_putsWord (x0 : Nat) (x1 : Nat) (h : AH) : Option (Unit × AH) :=
  f_X3_putsWord_l2 NN x0 x1 (0 : Int32) h
theorem v_X3_putsWord (D : va_G) (l : Launch) (hl : l.stackTraces = false) (as : List Value) (h0 : AH) {r : Unit} {hF : AH} (x0 : Nat) (x1 : Nat) (h : AH) (e : f_X3_putsWord x0 x1 h = some (r, hF)) : V (G_X3_putsWord D l as h0 hF (oV r)) h 0 [(0, .ref x0), (1, .ref x1)] [] := by
  unfold f_X3_putsWord at e
  refine v_iconst (pc' := 1) (v := 0) hc_X3_putsWord dX3_putsWord_0 rfl rfl ?_
  refine v_istore_n (pc' := 2) (lv' := [(2, .int (0 : Int32)), (0, .ref x0), (1, .ref x1)]) hc_X3_putsWord dX3_putsWord_1 rfl rfl (Nat.le_of_ble_eq_true rfl) rfl ?_
  refine v_pick [1, 2, 0] rfl ?_
  exact w_X3_putsWord_l2 D l hl as h0 NN x0 x1 (0 : Int32) h e
theorem w_X3_putsWord (D : va_G) (l : Launch) (hl : l.stackTraces = false) (x0 : Nat) (x1 : Nat) (h : AH) {r : Unit} {hF : AH} (e : f_X3_putsWord x0 x1 h = some (r, hF)) : MetV D l yX3_putsWord (Cond.code yX3_putsWord cX3_putsWord 3 (Option.none : Option FieldType)) 6 154 [.ref x0, .ref x1] h hF (oV r) :=
  met_ofF (by decide +kernel) hl (Nat.le_of_ble_eq_true rfl) rfl (v_X3_putsWord D l hl [.ref x0, .ref x1] h x0 x1 h e)
/-! BlockPapersModel.line(I)I  -/
abbrev G_X3_line (D : va_G) (l : Launch) (as : List Value) (h0 hF : AH) (o : Out) : CT := (D, l, (yX3_line.cls, yX3_line, cX3_line, 2, (Option.some .int), 7, 176, []), as, h0, hF, o)
theorem hc_X3_line {D : va_G} {l : Launch} {as : List Value} {h0 hF : AH} {o : Out} : gC (G_X3_line D l as h0 hF o) = cX3_line := rfl
theorem ho_X3_line {D : va_G} {l : Launch} {as : List Value} {h0 hF : AH} {o : Out} : gO (G_X3_line D l as h0 hF o) = "BlockPapersModel" := rfl
theorem hp_X3_line {D : va_G} {l : Launch} {as : List Value} {h0 hF : AH} {o : Out} (pc : Nat) : ∀ z ∈ tableOf (gHd (G_X3_line D l as h0 hF o)), covers z pc = false := hpN
def f_X3_line (x0 : Nat) (x1 : Int32) (h : AH) : Option (Int32 × AH) :=
  bd (stF h 2 x0 0 (.int (0 : Int32))) fun h1 =>
  gd (isC h1 2 x0) <|
  bd2 (f_X3_isRoll x0 x1 h1) fun r3 h4 =>
  if r3 = 0 then (
    gd (isC h4 2 x0) <|
    bd2 (f_X3_fails x0 (1 : Int32) h4) fun r7 h8 =>
    some (r7, h8)
  ) else (
    bd (stF h4 2 x0 12 (.int (0 : Int32))) fun h10 =>
    gd (isC h10 2 x0) <|
    bd2 (f_X3_putsNumber x0 x1 h10) fun r12 h13 =>
    bd (aE h13 111) fun v15 =>
    gd (isC h13 2 x0) <|
    bd2 (f_X3_putsWord x0 v15 h13) fun r17 h18 =>
    gd (isC h18 2 x0) <|
    bd2 (f_X3_leftOf x0 x1 h18) fun r21 h22 =>
    gd (isC h22 2 x0) <|
    bd2 (f_X3_putsNumber x0 r21 h22) fun r25 h26 =>
    bd (aE h26 112) fun v28 =>
    gd (isC h26 2 x0) <|
    bd2 (f_X3_putsWord x0 v28 h26) fun r30 h31 =>
    gd (isC h31 2 x0) <|
    bd2 (f_X3_rollRow x0 x1 (2 : Int32) h31) fun r34 h35 =>
    gd (isC h35 2 x0) <|
    bd2 (f_X3_putsNumber x0 r34 h35) fun r38 h39 =>
    bd (aE h39 113) fun v41 =>
    gd (isC h39 2 x0) <|
    bd2 (f_X3_putsWord x0 v41 h39) fun r43 h44 =>
    gd (isC h44 2 x0) <|
    bd2 (f_X3_rollRow x0 x1 (3 : Int32) h44) fun r47 h48 =>
    gd (isC h48 2 x0) <|
    bd2 (f_X3_putsNumber x0 r47 h48) fun r51 h52 =>
    gd (isC h52 2 x0) <|
    bd2 (f_X3_rollRow x0 x1 (5 : Int32) h52) fun r55 h56 =>
    if r55 = (1 : Int32) then (
      bd (aE h56 114) fun v58 =>
      gd (isC h56 2 x0) <|
      bd2 (f_X3_putsWord x0 v58 h56) fun r60 h61 =>
      bd (gtI h61 2 x0 12) fun v63 =>
      some (v63, h61)
    ) else (
      gd (isC h56 2 x0) <|
      bd2 (f_X3_rollRow x0 x1 (4 : Int32) h56) fun r65 h66 =>
      if r65 = 0 then (
        bd (aE h66 115) fun v68 =>
        gd (isC h66 2 x0) <|
        bd2 (f_X3_putsWord x0 v68 h66) fun r70 h71 =>
        bd (gtI h71 2 x0 12) fun v73 =>
        some (v73, h71)
      ) else (
        bd (aE h66 100) fun v74 =>
        gd (isC h66 2 x0) <|
        bd2 (f_X3_putsWord x0 v74 h66) fun r76 h77 =>
        bd (gtI h77 2 x0 12) fun v79 =>
        some (v79, h77)
      )
    )
  )
theorem v_X3_line (D : va_G) (l : Launch) (hl : l.stackTraces = false) (as : List Value) (h0 : AH) {r : Int32} {hF : AH} (x0 : Nat) (x1 : Int32) (h : AH) (e : f_X3_line x0 x1 h = some (r, hF)) : V (G_X3_line D l as h0 hF (oI r)) h 0 [(0, .ref x0), (1, .int x1)] [] := by
  unfold f_X3_line at e
  refine v_aload_n (pc' := 1) hc_X3_line dX3_line_0 rfl rfl 0 rfl ?_
  refine v_iconst (pc' := 2) (v := 0) hc_X3_line dX3_line_1 rfl rfl ?_
  refine v_pf (pc' := 5) hc_X3_line ho_X3_line KX3 0 (Nat.le_of_ble_eq_true rfl) q2242 (Or.inl rfl) rfl dX3_line_2 rfl rfl rfl e (fun h1 _ e => ?_)
  refine v_aload_n (pc' := 6) hc_X3_line dX3_line_5 rfl rfl 0 rfl ?_
  refine v_iload_n (pc' := 7) hc_X3_line dX3_line_6 rfl rfl 1 rfl ?_
  obtain ⟨c2, e⟩ := gd_of e
  obtain ⟨r3, h4, e5, e⟩ := bd2_of e
  refine k_V (pc' := 10) (ci := 2) (n := 1) hc_X3_line ho_X3_line rfl c2 (w_X3_isRoll D l hl x0 x1 h1 e5) (wA_l q2415) q2417 (wA_l qs39) q85 q2418 hy_164 ⟨Nat.le_of_ble_eq_true rfl, Nat.le_of_ble_eq_true rfl⟩ rfl rfl (Nat.le_of_ble_eq_true rfl) dX3_line_7 rfl (kS ?_) kN
  refine v_if_ne (pt := 19) (pf := 13) hc_X3_line dX3_line_10 rfl rfl e (fun _ e => ?_) (fun _ e => ?_)
  · refine v_aload_n (pc' := 14) hc_X3_line dX3_line_13 rfl rfl 0 rfl ?_
    refine v_iconst (pc' := 15) (v := 1) hc_X3_line dX3_line_14 rfl rfl ?_
    obtain ⟨c6, e⟩ := gd_of e
    obtain ⟨r7, h8, e9, e⟩ := bd2_of e
    refine k_V (pc' := 18) (ci := 2) (n := 1) hc_X3_line ho_X3_line rfl c6 (w_X3_fails D l hl x0 (1 : Int32) h4 e9) (wA_l q2351) q2353 (wA_l qs30) q85 q2354 hy_119 ⟨Nat.le_of_ble_eq_true rfl, Nat.le_of_ble_eq_true rfl⟩ rfl rfl (Nat.le_of_ble_eq_true rfl) dX3_line_15 rfl (kS ?_) kN
    obtain ⟨rfl, rfl⟩ := ret_of e
    exact v_iret hc_X3_line rfl dX3_line_18 rfl rfl
  · refine v_aload_n (pc' := 20) hc_X3_line dX3_line_19 rfl rfl 0 rfl ?_
    refine v_iconst (pc' := 21) (v := 0) hc_X3_line dX3_line_20 rfl rfl ?_
    refine v_pf (pc' := 24) hc_X3_line ho_X3_line KX3 12 (Nat.le_of_ble_eq_true rfl) q2254 (Or.inl rfl) rfl dX3_line_21 rfl rfl rfl e (fun h10 _ e => ?_)
    refine v_aload_n (pc' := 25) hc_X3_line dX3_line_24 rfl rfl 0 rfl ?_
    refine v_iload_n (pc' := 26) hc_X3_line dX3_line_25 rfl rfl 1 rfl ?_
    obtain ⟨c11, e⟩ := gd_of e
    obtain ⟨r12, h13, e14, e⟩ := bd2_of e
    refine k_V (pc' := 29) (ci := 2) (n := 1) hc_X3_line ho_X3_line rfl c11 (w_X3_putsNumber D l hl x0 x1 h10 e14) (wA_l q2551) q2553 (wA_l qs59) q85 q2554 hy_255 ⟨Nat.le_of_ble_eq_true rfl, Nat.le_of_ble_eq_true rfl⟩ rfl rfl (Nat.le_of_ble_eq_true rfl) dX3_line_26 rfl (kU ?_) kN
    refine v_aload_n (pc' := 30) hc_X3_line dX3_line_29 rfl rfl 0 rfl ?_
    refine v_ldcS (pc' := 32) (tx := ": ") (j := 111) hc_X3_line ho_X3_line (by decide +kernel) dX3_line_30 rfl e (fun v15 _ e => ?_)
    obtain ⟨c16, e⟩ := gd_of e
    obtain ⟨r17, h18, e19, e⟩ := bd2_of e
    refine k_V (pc' := 35) (ci := 2) (n := 1) hc_X3_line ho_X3_line rfl c16 (w_X3_putsWord D l hl x0 v15 h13 e19) (wA_l q2560) q2562 (wA_l qs61) q85 q2563 hy_263 ⟨Nat.le_of_ble_eq_true rfl, Nat.le_of_ble_eq_true rfl⟩ rfl rfl (Nat.le_of_ble_eq_true rfl) dX3_line_32 rfl (kU ?_) kN
    refine v_aload_n (pc' := 36) hc_X3_line dX3_line_35 rfl rfl 0 rfl ?_
    refine v_aload_n (pc' := 37) hc_X3_line dX3_line_36 rfl rfl 0 rfl ?_
    refine v_iload_n (pc' := 38) hc_X3_line dX3_line_37 rfl rfl 1 rfl ?_
    obtain ⟨c20, e⟩ := gd_of e
    obtain ⟨r21, h22, e23, e⟩ := bd2_of e
    refine k_V (pc' := 41) (ci := 2) (n := 1) hc_X3_line ho_X3_line rfl c20 (w_X3_leftOf D l hl x0 x1 h18 e23) (wA_l q2427) q2429 (wA_l qs42) q85 q2430 hy_167 ⟨Nat.le_of_ble_eq_true rfl, Nat.le_of_ble_eq_true rfl⟩ rfl rfl (Nat.le_of_ble_eq_true rfl) dX3_line_38 rfl (kS ?_) kN
    obtain ⟨c24, e⟩ := gd_of e
    obtain ⟨r25, h26, e27, e⟩ := bd2_of e
    refine k_V (pc' := 44) (ci := 2) (n := 1) hc_X3_line ho_X3_line rfl c24 (w_X3_putsNumber D l hl x0 r21 h22 e27) (wA_l q2551) q2553 (wA_l qs59) q85 q2554 hy_255 ⟨Nat.le_of_ble_eq_true rfl, Nat.le_of_ble_eq_true rfl⟩ rfl rfl (Nat.le_of_ble_eq_true rfl) dX3_line_41 rfl (kU ?_) kN
    refine v_aload_n (pc' := 45) hc_X3_line dX3_line_44 rfl rfl 0 rfl ?_
    refine v_ldcS (pc' := 47) (tx := " of ") (j := 112) hc_X3_line ho_X3_line (by decide +kernel) dX3_line_45 rfl e (fun v28 _ e => ?_)
    obtain ⟨c29, e⟩ := gd_of e
    obtain ⟨r30, h31, e32, e⟩ := bd2_of e
    refine k_V (pc' := 50) (ci := 2) (n := 1) hc_X3_line ho_X3_line rfl c29 (w_X3_putsWord D l hl x0 v28 h26 e32) (wA_l q2560) q2562 (wA_l qs61) q85 q2563 hy_263 ⟨Nat.le_of_ble_eq_true rfl, Nat.le_of_ble_eq_true rfl⟩ rfl rfl (Nat.le_of_ble_eq_true rfl) dX3_line_47 rfl (kU ?_) kN
    refine v_aload_n (pc' := 51) hc_X3_line dX3_line_50 rfl rfl 0 rfl ?_
    refine v_aload_n (pc' := 52) hc_X3_line dX3_line_51 rfl rfl 0 rfl ?_
    refine v_iload_n (pc' := 53) hc_X3_line dX3_line_52 rfl rfl 1 rfl ?_
    refine v_iconst (pc' := 54) (v := 2) hc_X3_line dX3_line_53 rfl rfl ?_
    obtain ⟨c33, e⟩ := gd_of e
    obtain ⟨r34, h35, e36, e⟩ := bd2_of e
    refine k_V (pc' := 57) (ci := 2) (n := 2) hc_X3_line ho_X3_line rfl c33 (w_X3_rollRow D l hl x0 x1 (2 : Int32) h31 e36) (wA_l q2419) q2421 (wA_l qs40) q85 q2422 hy_165 ⟨Nat.le_of_ble_eq_true rfl, Nat.le_of_ble_eq_true rfl⟩ rfl rfl (Nat.le_of_ble_eq_true rfl) dX3_line_54 rfl (kS ?_) kN
    obtain ⟨c37, e⟩ := gd_of e
    obtain ⟨r38, h39, e40, e⟩ := bd2_of e
    refine k_V (pc' := 60) (ci := 2) (n := 1) hc_X3_line ho_X3_line rfl c37 (w_X3_putsNumber D l hl x0 r34 h35 e40) (wA_l q2551) q2553 (wA_l qs59) q85 q2554 hy_255 ⟨Nat.le_of_ble_eq_true rfl, Nat.le_of_ble_eq_true rfl⟩ rfl rfl (Nat.le_of_ble_eq_true rfl) dX3_line_57 rfl (kU ?_) kN
    refine v_aload_n (pc' := 61) hc_X3_line dX3_line_60 rfl rfl 0 rfl ?_
    refine v_ldcS (pc' := 63) (tx := ", shade ") (j := 113) hc_X3_line ho_X3_line (by decide +kernel) dX3_line_61 rfl e (fun v41 _ e => ?_)
    obtain ⟨c42, e⟩ := gd_of e
    obtain ⟨r43, h44, e45, e⟩ := bd2_of e
    refine k_V (pc' := 66) (ci := 2) (n := 1) hc_X3_line ho_X3_line rfl c42 (w_X3_putsWord D l hl x0 v41 h39 e45) (wA_l q2560) q2562 (wA_l qs61) q85 q2563 hy_263 ⟨Nat.le_of_ble_eq_true rfl, Nat.le_of_ble_eq_true rfl⟩ rfl rfl (Nat.le_of_ble_eq_true rfl) dX3_line_63 rfl (kU ?_) kN
    refine v_aload_n (pc' := 67) hc_X3_line dX3_line_66 rfl rfl 0 rfl ?_
    refine v_aload_n (pc' := 68) hc_X3_line dX3_line_67 rfl rfl 0 rfl ?_
    refine v_iload_n (pc' := 69) hc_X3_line dX3_line_68 rfl rfl 1 rfl ?_
    refine v_iconst (pc' := 70) (v := 3) hc_X3_line dX3_line_69 rfl rfl ?_
    obtain ⟨c46, e⟩ := gd_of e
    obtain ⟨r47, h48, e49, e⟩ := bd2_of e
    refine k_V (pc' := 73) (ci := 2) (n := 2) hc_X3_line ho_X3_line rfl c46 (w_X3_rollRow D l hl x0 x1 (3 : Int32) h44 e49) (wA_l q2419) q2421 (wA_l qs40) q85 q2422 hy_165 ⟨Nat.le_of_ble_eq_true rfl, Nat.le_of_ble_eq_true rfl⟩ rfl rfl (Nat.le_of_ble_eq_true rfl) dX3_line_70 rfl (kS ?_) kN
    obtain ⟨c50, e⟩ := gd_of e
    obtain ⟨r51, h52, e53, e⟩ := bd2_of e
    refine k_V (pc' := 76) (ci := 2) (n := 1) hc_X3_line ho_X3_line rfl c50 (w_X3_putsNumber D l hl x0 r47 h48 e53) (wA_l q2551) q2553 (wA_l qs59) q85 q2554 hy_255 ⟨Nat.le_of_ble_eq_true rfl, Nat.le_of_ble_eq_true rfl⟩ rfl rfl (Nat.le_of_ble_eq_true rfl) dX3_line_73 rfl (kU ?_) kN
    refine v_aload_n (pc' := 77) hc_X3_line dX3_line_76 rfl rfl 0 rfl ?_
    refine v_aload_n (pc' := 78) hc_X3_line dX3_line_77 rfl rfl 0 rfl ?_
    refine v_iload_n (pc' := 79) hc_X3_line dX3_line_78 rfl rfl 1 rfl ?_
    refine v_iconst (pc' := 80) (v := 5) hc_X3_line dX3_line_79 rfl rfl ?_
    obtain ⟨c54, e⟩ := gd_of e
    obtain ⟨r55, h56, e57, e⟩ := bd2_of e
    refine k_V (pc' := 83) (ci := 2) (n := 2) hc_X3_line ho_X3_line rfl c54 (w_X3_rollRow D l hl x0 x1 (5 : Int32) h52 e57) (wA_l q2419) q2421 (wA_l qs40) q85 q2422 hy_165 ⟨Nat.le_of_ble_eq_true rfl, Nat.le_of_ble_eq_true rfl⟩ rfl rfl (Nat.le_of_ble_eq_true rfl) dX3_line_80 rfl (kS ?_) kN
    refine v_iconst (pc' := 84) (v := 1) hc_X3_line dX3_line_83 rfl rfl ?_
    refine v_icmp_ne (pt := 92) (pf := 87) hc_X3_line dX3_line_84 rfl rfl e (fun _ e => ?_) (fun _ e => ?_)
    · refine v_ldcS (pc' := 89) (tx := ", given back") (j := 114) hc_X3_line ho_X3_line (by decide +kernel) dX3_line_87 rfl e (fun v58 _ e => ?_)
      refine v_goto (pt := 108) hc_X3_line dX3_line_89 rfl ?_
      obtain ⟨c59, e⟩ := gd_of e
      obtain ⟨r60, h61, e62, e⟩ := bd2_of e
      refine k_V (pc' := 111) (ci := 2) (n := 1) hc_X3_line ho_X3_line rfl c59 (w_X3_putsWord D l hl x0 v58 h56 e62) (wA_l q2560) q2562 (wA_l qs61) q85 q2563 hy_263 ⟨Nat.le_of_ble_eq_true rfl, Nat.le_of_ble_eq_true rfl⟩ rfl rfl (Nat.le_of_ble_eq_true rfl) dX3_line_108 rfl (kU ?_) kN
      refine v_aload_n (pc' := 112) hc_X3_line dX3_line_111 rfl rfl 0 rfl ?_
      refine v_gfI (pc' := 115) hc_X3_line ho_X3_line KX3 12 (Nat.le_of_ble_eq_true rfl) q2254 (Or.inl rfl) dX3_line_112 rfl e (fun v63 _ e => ?_)
      obtain ⟨rfl, rfl⟩ := ret_of e
      exact v_iret hc_X3_line rfl dX3_line_115 rfl rfl
    · refine v_aload_n (pc' := 93) hc_X3_line dX3_line_92 rfl rfl 0 rfl ?_
      refine v_iload_n (pc' := 94) hc_X3_line dX3_line_93 rfl rfl 1 rfl ?_
      refine v_iconst (pc' := 95) (v := 4) hc_X3_line dX3_line_94 rfl rfl ?_
      obtain ⟨c64, e⟩ := gd_of e
      obtain ⟨r65, h66, e67, e⟩ := bd2_of e
      refine k_V (pc' := 98) (ci := 2) (n := 2) hc_X3_line ho_X3_line rfl c64 (w_X3_rollRow D l hl x0 x1 (4 : Int32) h56 e67) (wA_l q2419) q2421 (wA_l qs40) q85 q2422 hy_165 ⟨Nat.le_of_ble_eq_true rfl, Nat.le_of_ble_eq_true rfl⟩ rfl rfl (Nat.le_of_ble_eq_true rfl) dX3_line_95 rfl (kS ?_) kN
      refine v_if_ne (pt := 106) (pf := 101) hc_X3_line dX3_line_98 rfl rfl e (fun _ e => ?_) (fun _ e => ?_)
      · refine v_ldcS (pc' := 103) (tx := ", whole") (j := 115) hc_X3_line ho_X3_line (by decide +kernel) dX3_line_101 rfl e (fun v68 _ e => ?_)
        refine v_goto (pt := 108) hc_X3_line dX3_line_103 rfl ?_
        obtain ⟨c69, e⟩ := gd_of e
        obtain ⟨r70, h71, e72, e⟩ := bd2_of e
        refine k_V (pc' := 111) (ci := 2) (n := 1) hc_X3_line ho_X3_line rfl c69 (w_X3_putsWord D l hl x0 v68 h66 e72) (wA_l q2560) q2562 (wA_l qs61) q85 q2563 hy_263 ⟨Nat.le_of_ble_eq_true rfl, Nat.le_of_ble_eq_true rfl⟩ rfl rfl (Nat.le_of_ble_eq_true rfl) dX3_line_108 rfl (kU ?_) kN
        refine v_aload_n (pc' := 112) hc_X3_line dX3_line_111 rfl rfl 0 rfl ?_
        refine v_gfI (pc' := 115) hc_X3_line ho_X3_line KX3 12 (Nat.le_of_ble_eq_true rfl) q2254 (Or.inl rfl) dX3_line_112 rfl e (fun v73 _ e => ?_)
        obtain ⟨rfl, rfl⟩ := ret_of e
        exact v_iret hc_X3_line rfl dX3_line_115 rfl rfl
      · refine v_ldcS (pc' := 108) (tx := "") (j := 100) hc_X3_line ho_X3_line (by decide +kernel) dX3_line_106 rfl e (fun v74 _ e => ?_)
        obtain ⟨c75, e⟩ := gd_of e
        obtain ⟨r76, h77, e78, e⟩ := bd2_of e
        refine k_V (pc' := 111) (ci := 2) (n := 1) hc_X3_line ho_X3_line rfl c75 (w_X3_putsWord D l hl x0 v74 h66 e78) (wA_l q2560) q2562 (wA_l qs61) q85 q2563 hy_263 ⟨Nat.le_of_ble_eq_true rfl, Nat.le_of_ble_eq_true rfl⟩ rfl rfl (Nat.le_of_ble_eq_true rfl) dX3_line_108 rfl (kU ?_) kN
        refine v_aload_n (pc' := 112) hc_X3_line dX3_line_111 rfl rfl 0 rfl ?_
        refine v_gfI (pc' := 115) hc_X3_line ho_X3_line KX3 12 (Nat.le_of_ble_eq_true rfl) q2254 (Or.inl rfl) dX3_line_112 rfl e (fun v79 _ e => ?_)
        obtain ⟨rfl, rfl⟩ := ret_of e
        exact v_iret hc_X3_line rfl dX3_line_115 rfl rfl
theorem w_X3_line (D : va_G) (l : Launch) (hl : l.stackTraces = false) (x0 : Nat) (x1 : Int32) (h : AH) {r : Int32} {hF : AH} (e : f_X3_line x0 x1 h = some (r, hF)) : MetV D l yX3_line (Cond.code yX3_line cX3_line 2 (Option.some .int)) 7 176 [.ref x0, .int x1] h hF (oI r) :=
  met_ofF (by decide +kernel) hl (Nat.le_of_ble_eq_true rfl) rfl (v_X3_line D l hl [.ref x0, .int x1] h x0 x1 h e)
/-! BlockPapersModel.character(I)C  -/
abbrev G_X3_character (D : va_G) (l : Launch) (as : List Value) (h0 hF : AH) (o : Out) : CT := (D, l, (yX3_character.cls, yX3_character, cX3_character, 2, (Option.some .char), 2, 70, []), as, h0, hF, o)
theorem hc_X3_character {D : va_G} {l : Launch} {as : List Value} {h0 hF : AH} {o : Out} : gC (G_X3_character D l as h0 hF o) = cX3_character := rfl
theorem ho_X3_character {D : va_G} {l : Launch} {as : List Value} {h0 hF : AH} {o : Out} : gO (G_X3_character D l as h0 hF o) = "BlockPapersModel" := rfl
theorem hp_X3_character {D : va_G} {l : Launch} {as : List Value} {h0 hF : AH} {o : Out} (pc : Nat) : ∀ z ∈ tableOf (gHd (G_X3_character D l as h0 hF o)), covers z pc = false := hpN
def f_X3_character_j20 (x0 : Nat) (x1 : Int32) (s0 : Nat) (s1 : Int32) (h : AH) : Option (Int32 × AH) :=
  bd (stF h 2 s0 0 (.int s1)) fun h1 =>
  bd (gtI h1 2 x0 0) fun v2 =>
  if v2 ≤ 0 then (
    bd (gtR h1 2 x0 10) fun v3 =>
    bd (ldI h1 0 v3 x1) fun v4 =>
    gd (nrw .char ((v4.toUInt32 % 65536).toInt32)) <|
    some (((v4.toUInt32 % 65536).toInt32), h1)
  ) else (
    some ((0 : Int32), h1)
  )
theorem w_X3_character_j20 (D : va_G) (l : Launch) (hl : l.stackTraces = false) (as : List Value) (h0 : AH) {r : Int32} {hF : AH} (x0 : Nat) (x1 : Int32) (s0 : Nat) (s1 : Int32) (h : AH) (e : f_X3_character_j20 x0 x1 s0 s1 h = some (r, hF)) : V (G_X3_character D l as h0 hF (oI r)) h 20 [(0, .ref x0), (1, .int x1)] [.int s1, .ref s0] := by
  unfold f_X3_character_j20 at e
  refine v_pf (pc' := 23) hc_X3_character ho_X3_character KX3 0 (Nat.le_of_ble_eq_true rfl) q2242 (Or.inl rfl) rfl dX3_character_20 rfl rfl rfl e (fun h1 _ e => ?_)
  refine v_aload_n (pc' := 24) hc_X3_character dX3_character_23 rfl rfl 0 rfl ?_
  refine v_gfI (pc' := 27) hc_X3_character ho_X3_character KX3 0 (Nat.le_of_ble_eq_true rfl) q2242 (Or.inl rfl) dX3_character_24 rfl e (fun v2 _ e => ?_)
  refine v_if_le (pt := 34) (pf := 30) hc_X3_character dX3_character_27 rfl rfl e (fun _ e => ?_) (fun _ e => ?_)
  · refine v_aload_n (pc' := 35) hc_X3_character dX3_character_34 rfl rfl 0 rfl ?_
    refine v_gfR (pc' := 38) hc_X3_character ho_X3_character KX3 10 (Nat.le_of_ble_eq_true rfl) q2252 (Or.inl rfl) dX3_character_35 rfl e (fun v3 _ e => ?_)
    refine v_iload_n (pc' := 39) hc_X3_character dX3_character_38 rfl rfl 1 rfl ?_
    refine v_iald (pc' := 40) hc_X3_character dX3_character_39 rfl e (fun v4 _ e => ?_)
    refine v_i2c (pc' := 41) hc_X3_character dX3_character_40 rfl ?_
    obtain ⟨c5, e⟩ := gd_of e
    obtain ⟨rfl, rfl⟩ := ret_of e
    exact v_zret hc_X3_character rfl (nrw_of c5) dX3_character_41 rfl rfl
  · refine v_iconst (pc' := 31) (v := 0) hc_X3_character dX3_character_30 rfl rfl ?_
    refine v_goto (pt := 41) hc_X3_character dX3_character_31 rfl ?_
    obtain ⟨rfl, rfl⟩ := ret_of e
    exact v_zret hc_X3_character rfl (ft := .char) rfl dX3_character_41 rfl rfl
def f_X3_character (x0 : Nat) (x1 : Int32) (h : AH) : Option (Int32 × AH) :=
  bd (gtI h 2 x0 12) fun v1 =>
  bd2 (f_X3_in x1 (0 : Int32) (v1 - (1 : Int32)) h) fun r2 h3 =>
  if r2 = 0 then (
    f_X3_character_j20 x0 x1 x0 (1 : Int32) h3
  ) else (
    f_X3_character_j20 x0 x1 x0 (0 : Int32) h3
  )
theorem v_X3_character (D : va_G) (l : Launch) (hl : l.stackTraces = false) (as : List Value) (h0 : AH) {r : Int32} {hF : AH} (x0 : Nat) (x1 : Int32) (h : AH) (e : f_X3_character x0 x1 h = some (r, hF)) : V (G_X3_character D l as h0 hF (oI r)) h 0 [(0, .ref x0), (1, .int x1)] [] := by
  unfold f_X3_character at e
  refine v_aload_n (pc' := 1) hc_X3_character dX3_character_0 rfl rfl 0 rfl ?_
  refine v_iload_n (pc' := 2) hc_X3_character dX3_character_1 rfl rfl 1 rfl ?_
  refine v_iconst (pc' := 3) (v := 0) hc_X3_character dX3_character_2 rfl rfl ?_
  refine v_aload_n (pc' := 4) hc_X3_character dX3_character_3 rfl rfl 0 rfl ?_
  refine v_gfI (pc' := 7) hc_X3_character ho_X3_character KX3 12 (Nat.le_of_ble_eq_true rfl) q2254 (Or.inl rfl) dX3_character_4 rfl e (fun v1 _ e => ?_)
  refine v_iconst (pc' := 8) (v := 1) hc_X3_character dX3_character_7 rfl rfl ?_
  refine v_isub (pc' := 9) hc_X3_character dX3_character_8 rfl ?_
  obtain ⟨r2, h3, e4, e⟩ := bd2_of e
  refine k_S (pc' := 12) (n := 3) hc_X3_character ho_X3_character (w_X3_in D l hl x1 (0 : Int32) (v1 - (1 : Int32)) h e4) (wA_l q2328) q2329 q85 q2330 hy_118 ⟨Nat.le_of_ble_eq_true rfl, Nat.le_of_ble_eq_true rfl⟩ rfl rfl (Nat.le_of_ble_eq_true rfl) dX3_character_9 rfl (kS ?_) kN
  refine v_if_eq (pt := 19) (pf := 15) hc_X3_character dX3_character_12 rfl rfl e (fun _ e => ?_) (fun _ e => ?_)
  · refine v_iconst (pc' := 20) (v := 1) hc_X3_character dX3_character_19 rfl rfl ?_
    exact w_X3_character_j20 D l hl as h0 x0 x1 x0 (1 : Int32) h3 e
  · refine v_iconst (pc' := 16) (v := 0) hc_X3_character dX3_character_15 rfl rfl ?_
    refine v_goto (pt := 20) hc_X3_character dX3_character_16 rfl ?_
    exact w_X3_character_j20 D l hl as h0 x0 x1 x0 (0 : Int32) h3 e
theorem w_X3_character (D : va_G) (l : Launch) (hl : l.stackTraces = false) (x0 : Nat) (x1 : Int32) (h : AH) {r : Int32} {hF : AH} (e : f_X3_character x0 x1 h = some (r, hF)) : MetV D l yX3_character (Cond.code yX3_character cX3_character 2 (Option.some .char)) 2 70 [.ref x0, .int x1] h hF (oI r) :=
  met_ofF (by decide +kernel) hl (Nat.le_of_ble_eq_true rfl) rfl (v_X3_character D l hl [.ref x0, .int x1] h x0 x1 h e)
/-! BlockPapersModel.given(Z)I  -/
abbrev G_X3_given (D : va_G) (l : Launch) (as : List Value) (h0 hF : AH) (o : Out) : CT := (D, l, (yX3_given.cls, yX3_given, cX3_given, 4, (Option.some .int), 2, 70, []), as, h0, hF, o)
theorem hc_X3_given {D : va_G} {l : Launch} {as : List Value} {h0 hF : AH} {o : Out} : gC (G_X3_given D l as h0 hF o) = cX3_given := rfl
theorem ho_X3_given {D : va_G} {l : Launch} {as : List Value} {h0 hF : AH} {o : Out} : gO (G_X3_given D l as h0 hF o) = "BlockPapersModel" := rfl
theorem hp_X3_given {D : va_G} {l : Launch} {as : List Value} {h0 hF : AH} {o : Out} (pc : Nat) : ∀ z ∈ tableOf (gHd (G_X3_given D l as h0 hF o)), covers z pc = false := hpN
def fb_X3_given_l4 (rec : Nat → Int32 → Int32 → Int32 → AH → Option (Int32 × AH)) (x0 : Nat) (x1 : Int32) (x2 : Int32) (x3 : Int32) (h : AH) : Option (Int32 × AH) :=
  bd (gtR h 2 x0 1) fun v1 =>
  bd (ldI h 0 v1 (2 : Int32)) fun v2 =>
  if v2 ≤ x3 then (
    some (x2, h)
  ) else (
    gd (isC h 2 x0) <|
    bd2 (f_X3_rollRow x0 x3 (5 : Int32) h) fun r4 h5 =>
    if x1 = 0 then (
      rec x0 x1 (x2 + (r4 * (1 : Int32))) (x3 + 1) h5
    ) else (
      gd (isC h5 2 x0) <|
      bd2 (f_X3_rollRow x0 x3 (2 : Int32) h5) fun r8 h9 =>
      rec x0 x1 (x2 + (r4 * r8)) (x3 + 1) h9
    )
  )
def f_X3_given_l4 : Nat → Nat → Int32 → Int32 → Int32 → AH → Option (Int32 × AH)
  | 0 => fun _ _ _ _ _ => none
  | n + 1 => fb_X3_given_l4 (f_X3_given_l4 n) 
theorem w_X3_given_l4 (D : va_G) (l : Launch) (hl : l.stackTraces = false) (as : List Value) (h0 : AH) {r : Int32} {hF : AH} : ∀ (n : Nat) (x0 : Nat) (x1 : Int32) (x2 : Int32) (x3 : Int32) (h : AH), f_X3_given_l4 n x0 x1 x2 x3 h = some (r, hF) → V (G_X3_given D l as h0 hF (oI r)) h 4 [(0, .ref x0), (1, .int x1), (2, .int x2), (3, .int x3)] [] := by
  intro n; induction n with
  | zero => intro x0 x1 x2 x3 h e; exact absurd (show (none : Option (Int32 × AH)) = some _ from e) (fun z => nomatch z)
  | succ n IH =>
    intro x0 x1 x2 x3 h e
    have e : fb_X3_given_l4 (f_X3_given_l4 n) x0 x1 x2 x3 h = some (r, hF) := e
    unfold fb_X3_given_l4 at e
    refine v_iload_n (pc' := 5) hc_X3_given dX3_given_4 rfl rfl 3 rfl ?_
    refine v_aload_n (pc' := 6) hc_X3_given dX3_given_5 rfl rfl 0 rfl ?_
    refine v_gfR (pc' := 9) hc_X3_given ho_X3_given KX3 1 (Nat.le_of_ble_eq_true rfl) q2243 (Or.inl rfl) dX3_given_6 rfl e (fun v1 _ e => ?_)
    refine v_iconst (pc' := 10) (v := 2) hc_X3_given dX3_given_9 rfl rfl ?_
    refine v_iald (pc' := 11) hc_X3_given dX3_given_10 rfl e (fun v2 _ e => ?_)
    refine v_icmp_ge (pt := 44) (pf := 14) hc_X3_given dX3_given_11 rfl rfl e (fun _ e => ?_) (fun _ e => ?_)
    · refine v_iload_n (pc' := 45) hc_X3_given dX3_given_44 rfl rfl 2 rfl ?_
      obtain ⟨rfl, rfl⟩ := ret_of e
      exact v_iret hc_X3_given rfl dX3_given_45 rfl rfl
    · refine v_iload_n (pc' := 15) hc_X3_given dX3_given_14 rfl rfl 2 rfl ?_
      refine v_aload_n (pc' := 16) hc_X3_given dX3_given_15 rfl rfl 0 rfl ?_
      refine v_iload_n (pc' := 17) hc_X3_given dX3_given_16 rfl rfl 3 rfl ?_
      refine v_iconst (pc' := 18) (v := 5) hc_X3_given dX3_given_17 rfl rfl ?_
      obtain ⟨c3, e⟩ := gd_of e
      obtain ⟨r4, h5, e6, e⟩ := bd2_of e
      refine k_V (pc' := 21) (ci := 2) (n := 2) hc_X3_given ho_X3_given rfl c3 (w_X3_rollRow D l hl x0 x3 (5 : Int32) h e6) (wA_l q2419) q2421 (wA_l qs40) q85 q2422 hy_165 ⟨Nat.le_of_ble_eq_true rfl, Nat.le_of_ble_eq_true rfl⟩ rfl rfl (Nat.le_of_ble_eq_true rfl) dX3_given_18 rfl (kS ?_) kN
      refine v_iload_n (pc' := 22) hc_X3_given dX3_given_21 rfl rfl 1 rfl ?_
      refine v_if_eq (pt := 34) (pf := 25) hc_X3_given dX3_given_22 rfl rfl e (fun _ e => ?_) (fun _ e => ?_)
      · refine v_iconst (pc' := 35) (v := 1) hc_X3_given dX3_given_34 rfl rfl ?_
        refine v_imul (pc' := 36) hc_X3_given dX3_given_35 rfl ?_
        refine v_iadd (pc' := 37) hc_X3_given dX3_given_36 rfl ?_
        refine v_istore_n (pc' := 38) (lv' := [(2, .int (x2 + (r4 * (1 : Int32)))), (0, .ref x0), (1, .int x1), (3, .int x3)]) hc_X3_given dX3_given_37 rfl rfl (Nat.le_of_ble_eq_true rfl) rfl ?_
        refine v_iinc (pc' := 41) (lv' := [(3, .int (x3 + 1)), (2, .int (x2 + (r4 * (1 : Int32)))), (0, .ref x0), (1, .int x1)]) (v := x3 + 1) hc_X3_given dX3_given_38 rfl 3 rfl rfl (Nat.le_of_ble_eq_true rfl) rfl ?_
        refine v_goto (pt := 4) hc_X3_given dX3_given_41 rfl ?_
        refine v_pick [2, 3, 1, 0] rfl ?_
        exact IH x0 x1 (x2 + (r4 * (1 : Int32))) (x3 + 1) h5 e
      · refine v_aload_n (pc' := 26) hc_X3_given dX3_given_25 rfl rfl 0 rfl ?_
        refine v_iload_n (pc' := 27) hc_X3_given dX3_given_26 rfl rfl 3 rfl ?_
        refine v_iconst (pc' := 28) (v := 2) hc_X3_given dX3_given_27 rfl rfl ?_
        obtain ⟨c7, e⟩ := gd_of e
        obtain ⟨r8, h9, e10, e⟩ := bd2_of e
        refine k_V (pc' := 31) (ci := 2) (n := 2) hc_X3_given ho_X3_given rfl c7 (w_X3_rollRow D l hl x0 x3 (2 : Int32) h5 e10) (wA_l q2419) q2421 (wA_l qs40) q85 q2422 hy_165 ⟨Nat.le_of_ble_eq_true rfl, Nat.le_of_ble_eq_true rfl⟩ rfl rfl (Nat.le_of_ble_eq_true rfl) dX3_given_28 rfl (kS ?_) kN
        refine v_goto (pt := 35) hc_X3_given dX3_given_31 rfl ?_
        refine v_imul (pc' := 36) hc_X3_given dX3_given_35 rfl ?_
        refine v_iadd (pc' := 37) hc_X3_given dX3_given_36 rfl ?_
        refine v_istore_n (pc' := 38) (lv' := [(2, .int (x2 + (r4 * r8))), (0, .ref x0), (1, .int x1), (3, .int x3)]) hc_X3_given dX3_given_37 rfl rfl (Nat.le_of_ble_eq_true rfl) rfl ?_
        refine v_iinc (pc' := 41) (lv' := [(3, .int (x3 + 1)), (2, .int (x2 + (r4 * r8))), (0, .ref x0), (1, .int x1)]) (v := x3 + 1) hc_X3_given dX3_given_38 rfl 3 rfl rfl (Nat.le_of_ble_eq_true rfl) rfl ?_
        refine v_goto (pt := 4) hc_X3_given dX3_given_41 rfl ?_
        refine v_pick [2, 3, 1, 0] rfl ?_
        exact IH x0 x1 (x2 + (r4 * r8)) (x3 + 1) h9 e
def f_X3_given (x0 : Nat) (x1 : Int32) (h : AH) : Option (Int32 × AH) :=
  f_X3_given_l4 NN x0 x1 (0 : Int32) (0 : Int32) h
theorem v_X3_given (D : va_G) (l : Launch) (hl : l.stackTraces = false) (as : List Value) (h0 : AH) {r : Int32} {hF : AH} (x0 : Nat) (x1 : Int32) (h : AH) (e : f_X3_given x0 x1 h = some (r, hF)) : V (G_X3_given D l as h0 hF (oI r)) h 0 [(0, .ref x0), (1, .int x1)] [] := by
  unfold f_X3_given at e
  refine v_iconst (pc' := 1) (v := 0) hc_X3_given dX3_given_0 rfl rfl ?_
  refine v_istore_n (pc' := 2) (lv' := [(2, .int (0 : Int32)), (0, .ref x0), (1, .int x1)]) hc_X3_given dX3_given_1 rfl rfl (Nat.le_of_ble_eq_true rfl) rfl ?_
  refine v_iconst (pc' := 3) (v := 0) hc_X3_given dX3_given_2 rfl rfl ?_
  refine v_istore_n (pc' := 4) (lv' := [(3, .int (0 : Int32)), (2, .int (0 : Int32)), (0, .ref x0), (1, .int x1)]) hc_X3_given dX3_given_3 rfl rfl (Nat.le_of_ble_eq_true rfl) rfl ?_
  refine v_pick [2, 3, 1, 0] rfl ?_
  exact w_X3_given_l4 D l hl as h0 NN x0 x1 (0 : Int32) (0 : Int32) h e
theorem w_X3_given (D : va_G) (l : Launch) (hl : l.stackTraces = false) (x0 : Nat) (x1 : Int32) (h : AH) {r : Int32} {hF : AH} (e : f_X3_given x0 x1 h = some (r, hF)) : MetV D l yX3_given (Cond.code yX3_given cX3_given 4 (Option.some .int)) 2 70 [.ref x0, .int x1] h hF (oI r) :=
  met_ofF (by decide +kernel) hl (Nat.le_of_ble_eq_true rfl) rfl (v_X3_given D l hl [.ref x0, .int x1] h x0 x1 h e)
/-! BlockPapersModel.hung(Z)I  -/
abbrev G_X3_hung (D : va_G) (l : Launch) (as : List Value) (h0 hF : AH) (o : Out) : CT := (D, l, (yX3_hung.cls, yX3_hung, cX3_hung, 4, (Option.some .int), 2, 70, []), as, h0, hF, o)
theorem hc_X3_hung {D : va_G} {l : Launch} {as : List Value} {h0 hF : AH} {o : Out} : gC (G_X3_hung D l as h0 hF o) = cX3_hung := rfl
theorem ho_X3_hung {D : va_G} {l : Launch} {as : List Value} {h0 hF : AH} {o : Out} : gO (G_X3_hung D l as h0 hF o) = "BlockPapersModel" := rfl
theorem hp_X3_hung {D : va_G} {l : Launch} {as : List Value} {h0 hF : AH} {o : Out} (pc : Nat) : ∀ z ∈ tableOf (gHd (G_X3_hung D l as h0 hF o)), covers z pc = false := hpN
def fb_X3_hung_l4 (rec : Nat → Int32 → Int32 → Int32 → AH → Option (Int32 × AH)) (x0 : Nat) (x1 : Int32) (x2 : Int32) (x3 : Int32) (h : AH) : Option (Int32 × AH) :=
  bd (gtR h 2 x0 1) fun v1 =>
  bd (ldI h 0 v1 (3 : Int32)) fun v2 =>
  if v2 ≤ x3 then (
    some (x2, h)
  ) else (
    gd (isC h 2 x0) <|
    bd2 (f_X3_roomRow x0 x3 (2 : Int32) h) fun r4 h5 =>
    if x1 = 0 then (
      rec x0 x1 (x2 + (r4 * (1 : Int32))) (x3 + 1) h5
    ) else (
      gd (isC h5 2 x0) <|
      bd2 (f_X3_roomRow x0 x3 (0 : Int32) h5) fun r8 h9 =>
      rec x0 x1 (x2 + (r4 * r8)) (x3 + 1) h9
    )
  )
def f_X3_hung_l4 : Nat → Nat → Int32 → Int32 → Int32 → AH → Option (Int32 × AH)
  | 0 => fun _ _ _ _ _ => none
  | n + 1 => fb_X3_hung_l4 (f_X3_hung_l4 n) 
theorem w_X3_hung_l4 (D : va_G) (l : Launch) (hl : l.stackTraces = false) (as : List Value) (h0 : AH) {r : Int32} {hF : AH} : ∀ (n : Nat) (x0 : Nat) (x1 : Int32) (x2 : Int32) (x3 : Int32) (h : AH), f_X3_hung_l4 n x0 x1 x2 x3 h = some (r, hF) → V (G_X3_hung D l as h0 hF (oI r)) h 4 [(0, .ref x0), (1, .int x1), (2, .int x2), (3, .int x3)] [] := by
  intro n; induction n with
  | zero => intro x0 x1 x2 x3 h e; exact absurd (show (none : Option (Int32 × AH)) = some _ from e) (fun z => nomatch z)
  | succ n IH =>
    intro x0 x1 x2 x3 h e
    have e : fb_X3_hung_l4 (f_X3_hung_l4 n) x0 x1 x2 x3 h = some (r, hF) := e
    unfold fb_X3_hung_l4 at e
    refine v_iload_n (pc' := 5) hc_X3_hung dX3_hung_4 rfl rfl 3 rfl ?_
    refine v_aload_n (pc' := 6) hc_X3_hung dX3_hung_5 rfl rfl 0 rfl ?_
    refine v_gfR (pc' := 9) hc_X3_hung ho_X3_hung KX3 1 (Nat.le_of_ble_eq_true rfl) q2243 (Or.inl rfl) dX3_hung_6 rfl e (fun v1 _ e => ?_)
    refine v_iconst (pc' := 10) (v := 3) hc_X3_hung dX3_hung_9 rfl rfl ?_
    refine v_iald (pc' := 11) hc_X3_hung dX3_hung_10 rfl e (fun v2 _ e => ?_)
    refine v_icmp_ge (pt := 44) (pf := 14) hc_X3_hung dX3_hung_11 rfl rfl e (fun _ e => ?_) (fun _ e => ?_)
    · refine v_iload_n (pc' := 45) hc_X3_hung dX3_hung_44 rfl rfl 2 rfl ?_
      obtain ⟨rfl, rfl⟩ := ret_of e
      exact v_iret hc_X3_hung rfl dX3_hung_45 rfl rfl
    · refine v_iload_n (pc' := 15) hc_X3_hung dX3_hung_14 rfl rfl 2 rfl ?_
      refine v_aload_n (pc' := 16) hc_X3_hung dX3_hung_15 rfl rfl 0 rfl ?_
      refine v_iload_n (pc' := 17) hc_X3_hung dX3_hung_16 rfl rfl 3 rfl ?_
      refine v_iconst (pc' := 18) (v := 2) hc_X3_hung dX3_hung_17 rfl rfl ?_
      obtain ⟨c3, e⟩ := gd_of e
      obtain ⟨r4, h5, e6, e⟩ := bd2_of e
      refine k_V (pc' := 21) (ci := 2) (n := 2) hc_X3_hung ho_X3_hung rfl c3 (w_X3_roomRow D l hl x0 x3 (2 : Int32) h e6) (wA_l q2435) q2437 (wA_l qs44) q85 q2438 hy_168 ⟨Nat.le_of_ble_eq_true rfl, Nat.le_of_ble_eq_true rfl⟩ rfl rfl (Nat.le_of_ble_eq_true rfl) dX3_hung_18 rfl (kS ?_) kN
      refine v_iload_n (pc' := 22) hc_X3_hung dX3_hung_21 rfl rfl 1 rfl ?_
      refine v_if_eq (pt := 34) (pf := 25) hc_X3_hung dX3_hung_22 rfl rfl e (fun _ e => ?_) (fun _ e => ?_)
      · refine v_iconst (pc' := 35) (v := 1) hc_X3_hung dX3_hung_34 rfl rfl ?_
        refine v_imul (pc' := 36) hc_X3_hung dX3_hung_35 rfl ?_
        refine v_iadd (pc' := 37) hc_X3_hung dX3_hung_36 rfl ?_
        refine v_istore_n (pc' := 38) (lv' := [(2, .int (x2 + (r4 * (1 : Int32)))), (0, .ref x0), (1, .int x1), (3, .int x3)]) hc_X3_hung dX3_hung_37 rfl rfl (Nat.le_of_ble_eq_true rfl) rfl ?_
        refine v_iinc (pc' := 41) (lv' := [(3, .int (x3 + 1)), (2, .int (x2 + (r4 * (1 : Int32)))), (0, .ref x0), (1, .int x1)]) (v := x3 + 1) hc_X3_hung dX3_hung_38 rfl 3 rfl rfl (Nat.le_of_ble_eq_true rfl) rfl ?_
        refine v_goto (pt := 4) hc_X3_hung dX3_hung_41 rfl ?_
        refine v_pick [2, 3, 1, 0] rfl ?_
        exact IH x0 x1 (x2 + (r4 * (1 : Int32))) (x3 + 1) h5 e
      · refine v_aload_n (pc' := 26) hc_X3_hung dX3_hung_25 rfl rfl 0 rfl ?_
        refine v_iload_n (pc' := 27) hc_X3_hung dX3_hung_26 rfl rfl 3 rfl ?_
        refine v_iconst (pc' := 28) (v := 0) hc_X3_hung dX3_hung_27 rfl rfl ?_
        obtain ⟨c7, e⟩ := gd_of e
        obtain ⟨r8, h9, e10, e⟩ := bd2_of e
        refine k_V (pc' := 31) (ci := 2) (n := 2) hc_X3_hung ho_X3_hung rfl c7 (w_X3_roomRow D l hl x0 x3 (0 : Int32) h5 e10) (wA_l q2435) q2437 (wA_l qs44) q85 q2438 hy_168 ⟨Nat.le_of_ble_eq_true rfl, Nat.le_of_ble_eq_true rfl⟩ rfl rfl (Nat.le_of_ble_eq_true rfl) dX3_hung_28 rfl (kS ?_) kN
        refine v_goto (pt := 35) hc_X3_hung dX3_hung_31 rfl ?_
        refine v_imul (pc' := 36) hc_X3_hung dX3_hung_35 rfl ?_
        refine v_iadd (pc' := 37) hc_X3_hung dX3_hung_36 rfl ?_
        refine v_istore_n (pc' := 38) (lv' := [(2, .int (x2 + (r4 * r8))), (0, .ref x0), (1, .int x1), (3, .int x3)]) hc_X3_hung dX3_hung_37 rfl rfl (Nat.le_of_ble_eq_true rfl) rfl ?_
        refine v_iinc (pc' := 41) (lv' := [(3, .int (x3 + 1)), (2, .int (x2 + (r4 * r8))), (0, .ref x0), (1, .int x1)]) (v := x3 + 1) hc_X3_hung dX3_hung_38 rfl 3 rfl rfl (Nat.le_of_ble_eq_true rfl) rfl ?_
        refine v_goto (pt := 4) hc_X3_hung dX3_hung_41 rfl ?_
        refine v_pick [2, 3, 1, 0] rfl ?_
        exact IH x0 x1 (x2 + (r4 * r8)) (x3 + 1) h9 e
def f_X3_hung (x0 : Nat) (x1 : Int32) (h : AH) : Option (Int32 × AH) :=
  f_X3_hung_l4 NN x0 x1 (0 : Int32) (0 : Int32) h
theorem v_X3_hung (D : va_G) (l : Launch) (hl : l.stackTraces = false) (as : List Value) (h0 : AH) {r : Int32} {hF : AH} (x0 : Nat) (x1 : Int32) (h : AH) (e : f_X3_hung x0 x1 h = some (r, hF)) : V (G_X3_hung D l as h0 hF (oI r)) h 0 [(0, .ref x0), (1, .int x1)] [] := by
  unfold f_X3_hung at e
  refine v_iconst (pc' := 1) (v := 0) hc_X3_hung dX3_hung_0 rfl rfl ?_
  refine v_istore_n (pc' := 2) (lv' := [(2, .int (0 : Int32)), (0, .ref x0), (1, .int x1)]) hc_X3_hung dX3_hung_1 rfl rfl (Nat.le_of_ble_eq_true rfl) rfl ?_
  refine v_iconst (pc' := 3) (v := 0) hc_X3_hung dX3_hung_2 rfl rfl ?_
  refine v_istore_n (pc' := 4) (lv' := [(3, .int (0 : Int32)), (2, .int (0 : Int32)), (0, .ref x0), (1, .int x1)]) hc_X3_hung dX3_hung_3 rfl rfl (Nat.le_of_ble_eq_true rfl) rfl ?_
  refine v_pick [2, 3, 1, 0] rfl ?_
  exact w_X3_hung_l4 D l hl as h0 NN x0 x1 (0 : Int32) (0 : Int32) h e
theorem w_X3_hung (D : va_G) (l : Launch) (hl : l.stackTraces = false) (x0 : Nat) (x1 : Int32) (h : AH) {r : Int32} {hF : AH} (e : f_X3_hung x0 x1 h = some (r, hF)) : MetV D l yX3_hung (Cond.code yX3_hung cX3_hung 4 (Option.some .int)) 2 70 [.ref x0, .int x1] h hF (oI r) :=
  met_ofF (by decide +kernel) hl (Nat.le_of_ble_eq_true rfl) rfl (v_X3_hung D l hl [.ref x0, .int x1] h x0 x1 h e)
/-! BlockPapersModel.fullRooms()I  -/
abbrev G_X3_fullRooms (D : va_G) (l : Launch) (as : List Value) (h0 hF : AH) (o : Out) : CT := (D, l, (yX3_fullRooms.cls, yX3_fullRooms, cX3_fullRooms, 3, (Option.some .int), 2, 70, []), as, h0, hF, o)
theorem hc_X3_fullRooms {D : va_G} {l : Launch} {as : List Value} {h0 hF : AH} {o : Out} : gC (G_X3_fullRooms D l as h0 hF o) = cX3_fullRooms := rfl
theorem ho_X3_fullRooms {D : va_G} {l : Launch} {as : List Value} {h0 hF : AH} {o : Out} : gO (G_X3_fullRooms D l as h0 hF o) = "BlockPapersModel" := rfl
theorem hp_X3_fullRooms {D : va_G} {l : Launch} {as : List Value} {h0 hF : AH} {o : Out} (pc : Nat) : ∀ z ∈ tableOf (gHd (G_X3_fullRooms D l as h0 hF o)), covers z pc = false := hpN
def fb_X3_fullRooms_l4 (rec : Nat → Int32 → Int32 → AH → Option (Int32 × AH)) (x0 : Nat) (x1 : Int32) (x2 : Int32) (h : AH) : Option (Int32 × AH) :=
  bd (gtR h 2 x0 1) fun v1 =>
  bd (ldI h 0 v1 (3 : Int32)) fun v2 =>
  if v2 ≤ x2 then (
    some (x1, h)
  ) else (
    gd (isC h 2 x0) <|
    bd2 (f_X3_roomRow x0 x2 (2 : Int32) h) fun r4 h5 =>
    gd (isC h5 2 x0) <|
    bd2 (f_X3_roomRow x0 x2 (1 : Int32) h5) fun r8 h9 =>
    if r4 = r8 then (
      rec x0 (x1 + (1 : Int32)) (x2 + 1) h9
    ) else (
      rec x0 (x1 + (0 : Int32)) (x2 + 1) h9
    )
  )
def f_X3_fullRooms_l4 : Nat → Nat → Int32 → Int32 → AH → Option (Int32 × AH)
  | 0 => fun _ _ _ _ => none
  | n + 1 => fb_X3_fullRooms_l4 (f_X3_fullRooms_l4 n) 
theorem w_X3_fullRooms_l4 (D : va_G) (l : Launch) (hl : l.stackTraces = false) (as : List Value) (h0 : AH) {r : Int32} {hF : AH} : ∀ (n : Nat) (x0 : Nat) (x1 : Int32) (x2 : Int32) (h : AH), f_X3_fullRooms_l4 n x0 x1 x2 h = some (r, hF) → V (G_X3_fullRooms D l as h0 hF (oI r)) h 4 [(0, .ref x0), (1, .int x1), (2, .int x2)] [] := by
  intro n; induction n with
  | zero => intro x0 x1 x2 h e; exact absurd (show (none : Option (Int32 × AH)) = some _ from e) (fun z => nomatch z)
  | succ n IH =>
    intro x0 x1 x2 h e
    have e : fb_X3_fullRooms_l4 (f_X3_fullRooms_l4 n) x0 x1 x2 h = some (r, hF) := e
    unfold fb_X3_fullRooms_l4 at e
    refine v_iload_n (pc' := 5) hc_X3_fullRooms dX3_fullRooms_4 rfl rfl 2 rfl ?_
    refine v_aload_n (pc' := 6) hc_X3_fullRooms dX3_fullRooms_5 rfl rfl 0 rfl ?_
    refine v_gfR (pc' := 9) hc_X3_fullRooms ho_X3_fullRooms KX3 1 (Nat.le_of_ble_eq_true rfl) q2243 (Or.inl rfl) dX3_fullRooms_6 rfl e (fun v1 _ e => ?_)
    refine v_iconst (pc' := 10) (v := 3) hc_X3_fullRooms dX3_fullRooms_9 rfl rfl ?_
    refine v_iald (pc' := 11) hc_X3_fullRooms dX3_fullRooms_10 rfl e (fun v2 _ e => ?_)
    refine v_icmp_ge (pt := 43) (pf := 14) hc_X3_fullRooms dX3_fullRooms_11 rfl rfl e (fun _ e => ?_) (fun _ e => ?_)
    · refine v_iload_n (pc' := 44) hc_X3_fullRooms dX3_fullRooms_43 rfl rfl 1 rfl ?_
      obtain ⟨rfl, rfl⟩ := ret_of e
      exact v_iret hc_X3_fullRooms rfl dX3_fullRooms_44 rfl rfl
    · refine v_iload_n (pc' := 15) hc_X3_fullRooms dX3_fullRooms_14 rfl rfl 1 rfl ?_
      refine v_aload_n (pc' := 16) hc_X3_fullRooms dX3_fullRooms_15 rfl rfl 0 rfl ?_
      refine v_iload_n (pc' := 17) hc_X3_fullRooms dX3_fullRooms_16 rfl rfl 2 rfl ?_
      refine v_iconst (pc' := 18) (v := 2) hc_X3_fullRooms dX3_fullRooms_17 rfl rfl ?_
      obtain ⟨c3, e⟩ := gd_of e
      obtain ⟨r4, h5, e6, e⟩ := bd2_of e
      refine k_V (pc' := 21) (ci := 2) (n := 2) hc_X3_fullRooms ho_X3_fullRooms rfl c3 (w_X3_roomRow D l hl x0 x2 (2 : Int32) h e6) (wA_l q2435) q2437 (wA_l qs44) q85 q2438 hy_168 ⟨Nat.le_of_ble_eq_true rfl, Nat.le_of_ble_eq_true rfl⟩ rfl rfl (Nat.le_of_ble_eq_true rfl) dX3_fullRooms_18 rfl (kS ?_) kN
      refine v_aload_n (pc' := 22) hc_X3_fullRooms dX3_fullRooms_21 rfl rfl 0 rfl ?_
      refine v_iload_n (pc' := 23) hc_X3_fullRooms dX3_fullRooms_22 rfl rfl 2 rfl ?_
      refine v_iconst (pc' := 24) (v := 1) hc_X3_fullRooms dX3_fullRooms_23 rfl rfl ?_
      obtain ⟨c7, e⟩ := gd_of e
      obtain ⟨r8, h9, e10, e⟩ := bd2_of e
      refine k_V (pc' := 27) (ci := 2) (n := 2) hc_X3_fullRooms ho_X3_fullRooms rfl c7 (w_X3_roomRow D l hl x0 x2 (1 : Int32) h5 e10) (wA_l q2435) q2437 (wA_l qs44) q85 q2438 hy_168 ⟨Nat.le_of_ble_eq_true rfl, Nat.le_of_ble_eq_true rfl⟩ rfl rfl (Nat.le_of_ble_eq_true rfl) dX3_fullRooms_24 rfl (kS ?_) kN
      refine v_icmp_ne (pt := 34) (pf := 30) hc_X3_fullRooms dX3_fullRooms_27 rfl rfl e (fun _ e => ?_) (fun _ e => ?_)
      · refine v_iconst (pc' := 31) (v := 1) hc_X3_fullRooms dX3_fullRooms_30 rfl rfl ?_
        refine v_goto (pt := 35) hc_X3_fullRooms dX3_fullRooms_31 rfl ?_
        refine v_iadd (pc' := 36) hc_X3_fullRooms dX3_fullRooms_35 rfl ?_
        refine v_istore_n (pc' := 37) (lv' := [(1, .int (x1 + (1 : Int32))), (0, .ref x0), (2, .int x2)]) hc_X3_fullRooms dX3_fullRooms_36 rfl rfl (Nat.le_of_ble_eq_true rfl) rfl ?_
        refine v_iinc (pc' := 40) (lv' := [(2, .int (x2 + 1)), (1, .int (x1 + (1 : Int32))), (0, .ref x0)]) (v := x2 + 1) hc_X3_fullRooms dX3_fullRooms_37 rfl 2 rfl rfl (Nat.le_of_ble_eq_true rfl) rfl ?_
        refine v_goto (pt := 4) hc_X3_fullRooms dX3_fullRooms_40 rfl ?_
        refine v_pick [2, 1, 0] rfl ?_
        exact IH x0 (x1 + (1 : Int32)) (x2 + 1) h9 e
      · refine v_iconst (pc' := 35) (v := 0) hc_X3_fullRooms dX3_fullRooms_34 rfl rfl ?_
        refine v_iadd (pc' := 36) hc_X3_fullRooms dX3_fullRooms_35 rfl ?_
        refine v_istore_n (pc' := 37) (lv' := [(1, .int (x1 + (0 : Int32))), (0, .ref x0), (2, .int x2)]) hc_X3_fullRooms dX3_fullRooms_36 rfl rfl (Nat.le_of_ble_eq_true rfl) rfl ?_
        refine v_iinc (pc' := 40) (lv' := [(2, .int (x2 + 1)), (1, .int (x1 + (0 : Int32))), (0, .ref x0)]) (v := x2 + 1) hc_X3_fullRooms dX3_fullRooms_37 rfl 2 rfl rfl (Nat.le_of_ble_eq_true rfl) rfl ?_
        refine v_goto (pt := 4) hc_X3_fullRooms dX3_fullRooms_40 rfl ?_
        refine v_pick [2, 1, 0] rfl ?_
        exact IH x0 (x1 + (0 : Int32)) (x2 + 1) h9 e
def f_X3_fullRooms (x0 : Nat) (h : AH) : Option (Int32 × AH) :=
  f_X3_fullRooms_l4 NN x0 (0 : Int32) (0 : Int32) h
theorem v_X3_fullRooms (D : va_G) (l : Launch) (hl : l.stackTraces = false) (as : List Value) (h0 : AH) {r : Int32} {hF : AH} (x0 : Nat) (h : AH) (e : f_X3_fullRooms x0 h = some (r, hF)) : V (G_X3_fullRooms D l as h0 hF (oI r)) h 0 [(0, .ref x0)] [] := by
  unfold f_X3_fullRooms at e
  refine v_iconst (pc' := 1) (v := 0) hc_X3_fullRooms dX3_fullRooms_0 rfl rfl ?_
  refine v_istore_n (pc' := 2) (lv' := [(1, .int (0 : Int32)), (0, .ref x0)]) hc_X3_fullRooms dX3_fullRooms_1 rfl rfl (Nat.le_of_ble_eq_true rfl) rfl ?_
  refine v_iconst (pc' := 3) (v := 0) hc_X3_fullRooms dX3_fullRooms_2 rfl rfl ?_
  refine v_istore_n (pc' := 4) (lv' := [(2, .int (0 : Int32)), (1, .int (0 : Int32)), (0, .ref x0)]) hc_X3_fullRooms dX3_fullRooms_3 rfl rfl (Nat.le_of_ble_eq_true rfl) rfl ?_
  refine v_pick [2, 1, 0] rfl ?_
  exact w_X3_fullRooms_l4 D l hl as h0 NN x0 (0 : Int32) (0 : Int32) h e
theorem w_X3_fullRooms (D : va_G) (l : Launch) (hl : l.stackTraces = false) (x0 : Nat) (h : AH) {r : Int32} {hF : AH} (e : f_X3_fullRooms x0 h = some (r, hF)) : MetV D l yX3_fullRooms (Cond.code yX3_fullRooms cX3_fullRooms 3 (Option.some .int)) 2 70 [.ref x0] h hF (oI r) :=
  met_ofF (by decide +kernel) hl (Nat.le_of_ble_eq_true rfl) rfl (v_X3_fullRooms D l hl [.ref x0] h x0 h e)
/-! BlockPapersModel.lefts()I  -/
abbrev G_X3_lefts (D : va_G) (l : Launch) (as : List Value) (h0 hF : AH) (o : Out) : CT := (D, l, (yX3_lefts.cls, yX3_lefts, cX3_lefts, 3, (Option.some .int), 3, 91, []), as, h0, hF, o)
theorem hc_X3_lefts {D : va_G} {l : Launch} {as : List Value} {h0 hF : AH} {o : Out} : gC (G_X3_lefts D l as h0 hF o) = cX3_lefts := rfl
theorem ho_X3_lefts {D : va_G} {l : Launch} {as : List Value} {h0 hF : AH} {o : Out} : gO (G_X3_lefts D l as h0 hF o) = "BlockPapersModel" := rfl
theorem hp_X3_lefts {D : va_G} {l : Launch} {as : List Value} {h0 hF : AH} {o : Out} (pc : Nat) : ∀ z ∈ tableOf (gHd (G_X3_lefts D l as h0 hF o)), covers z pc = false := hpN
def fb_X3_lefts_l4 (rec : Nat → Int32 → Int32 → AH → Option (Int32 × AH)) (x0 : Nat) (x1 : Int32) (x2 : Int32) (h : AH) : Option (Int32 × AH) :=
  bd (gtR h 2 x0 1) fun v1 =>
  bd (ldI h 0 v1 (2 : Int32)) fun v2 =>
  if v2 ≤ x2 then (
    some (x1, h)
  ) else (
    gd (isC h 2 x0) <|
    bd2 (f_X3_leftOf x0 x2 h) fun r4 h5 =>
    rec x0 (x1 + r4) (x2 + 1) h5
  )
def f_X3_lefts_l4 : Nat → Nat → Int32 → Int32 → AH → Option (Int32 × AH)
  | 0 => fun _ _ _ _ => none
  | n + 1 => fb_X3_lefts_l4 (f_X3_lefts_l4 n) 
theorem w_X3_lefts_l4 (D : va_G) (l : Launch) (hl : l.stackTraces = false) (as : List Value) (h0 : AH) {r : Int32} {hF : AH} : ∀ (n : Nat) (x0 : Nat) (x1 : Int32) (x2 : Int32) (h : AH), f_X3_lefts_l4 n x0 x1 x2 h = some (r, hF) → V (G_X3_lefts D l as h0 hF (oI r)) h 4 [(0, .ref x0), (1, .int x1), (2, .int x2)] [] := by
  intro n; induction n with
  | zero => intro x0 x1 x2 h e; exact absurd (show (none : Option (Int32 × AH)) = some _ from e) (fun z => nomatch z)
  | succ n IH =>
    intro x0 x1 x2 h e
    have e : fb_X3_lefts_l4 (f_X3_lefts_l4 n) x0 x1 x2 h = some (r, hF) := e
    unfold fb_X3_lefts_l4 at e
    refine v_iload_n (pc' := 5) hc_X3_lefts dX3_lefts_4 rfl rfl 2 rfl ?_
    refine v_aload_n (pc' := 6) hc_X3_lefts dX3_lefts_5 rfl rfl 0 rfl ?_
    refine v_gfR (pc' := 9) hc_X3_lefts ho_X3_lefts KX3 1 (Nat.le_of_ble_eq_true rfl) q2243 (Or.inl rfl) dX3_lefts_6 rfl e (fun v1 _ e => ?_)
    refine v_iconst (pc' := 10) (v := 2) hc_X3_lefts dX3_lefts_9 rfl rfl ?_
    refine v_iald (pc' := 11) hc_X3_lefts dX3_lefts_10 rfl e (fun v2 _ e => ?_)
    refine v_icmp_ge (pt := 28) (pf := 14) hc_X3_lefts dX3_lefts_11 rfl rfl e (fun _ e => ?_) (fun _ e => ?_)
    · refine v_iload_n (pc' := 29) hc_X3_lefts dX3_lefts_28 rfl rfl 1 rfl ?_
      obtain ⟨rfl, rfl⟩ := ret_of e
      exact v_iret hc_X3_lefts rfl dX3_lefts_29 rfl rfl
    · refine v_iload_n (pc' := 15) hc_X3_lefts dX3_lefts_14 rfl rfl 1 rfl ?_
      refine v_aload_n (pc' := 16) hc_X3_lefts dX3_lefts_15 rfl rfl 0 rfl ?_
      refine v_iload_n (pc' := 17) hc_X3_lefts dX3_lefts_16 rfl rfl 2 rfl ?_
      obtain ⟨c3, e⟩ := gd_of e
      obtain ⟨r4, h5, e6, e⟩ := bd2_of e
      refine k_V (pc' := 20) (ci := 2) (n := 1) hc_X3_lefts ho_X3_lefts rfl c3 (w_X3_leftOf D l hl x0 x2 h e6) (wA_l q2427) q2429 (wA_l qs42) q85 q2430 hy_167 ⟨Nat.le_of_ble_eq_true rfl, Nat.le_of_ble_eq_true rfl⟩ rfl rfl (Nat.le_of_ble_eq_true rfl) dX3_lefts_17 rfl (kS ?_) kN
      refine v_iadd (pc' := 21) hc_X3_lefts dX3_lefts_20 rfl ?_
      refine v_istore_n (pc' := 22) (lv' := [(1, .int (x1 + r4)), (0, .ref x0), (2, .int x2)]) hc_X3_lefts dX3_lefts_21 rfl rfl (Nat.le_of_ble_eq_true rfl) rfl ?_
      refine v_iinc (pc' := 25) (lv' := [(2, .int (x2 + 1)), (1, .int (x1 + r4)), (0, .ref x0)]) (v := x2 + 1) hc_X3_lefts dX3_lefts_22 rfl 2 rfl rfl (Nat.le_of_ble_eq_true rfl) rfl ?_
      refine v_goto (pt := 4) hc_X3_lefts dX3_lefts_25 rfl ?_
      refine v_pick [2, 1, 0] rfl ?_
      exact IH x0 (x1 + r4) (x2 + 1) h5 e
def f_X3_lefts (x0 : Nat) (h : AH) : Option (Int32 × AH) :=
  f_X3_lefts_l4 NN x0 (0 : Int32) (0 : Int32) h
theorem v_X3_lefts (D : va_G) (l : Launch) (hl : l.stackTraces = false) (as : List Value) (h0 : AH) {r : Int32} {hF : AH} (x0 : Nat) (h : AH) (e : f_X3_lefts x0 h = some (r, hF)) : V (G_X3_lefts D l as h0 hF (oI r)) h 0 [(0, .ref x0)] [] := by
  unfold f_X3_lefts at e
  refine v_iconst (pc' := 1) (v := 0) hc_X3_lefts dX3_lefts_0 rfl rfl ?_
  refine v_istore_n (pc' := 2) (lv' := [(1, .int (0 : Int32)), (0, .ref x0)]) hc_X3_lefts dX3_lefts_1 rfl rfl (Nat.le_of_ble_eq_true rfl) rfl ?_
  refine v_iconst (pc' := 3) (v := 0) hc_X3_lefts dX3_lefts_2 rfl rfl ?_
  refine v_istore_n (pc' := 4) (lv' := [(2, .int (0 : Int32)), (1, .int (0 : Int32)), (0, .ref x0)]) hc_X3_lefts dX3_lefts_3 rfl rfl (Nat.le_of_ble_eq_true rfl) rfl ?_
  refine v_pick [2, 1, 0] rfl ?_
  exact w_X3_lefts_l4 D l hl as h0 NN x0 (0 : Int32) (0 : Int32) h e
theorem w_X3_lefts (D : va_G) (l : Launch) (hl : l.stackTraces = false) (x0 : Nat) (h : AH) {r : Int32} {hF : AH} (e : f_X3_lefts x0 h = some (r, hF)) : MetV D l yX3_lefts (Cond.code yX3_lefts cX3_lefts 3 (Option.some .int)) 3 91 [.ref x0] h hF (oI r) :=
  met_ofF (by decide +kernel) hl (Nat.le_of_ble_eq_true rfl) rfl (v_X3_lefts D l hl [.ref x0] h x0 h e)
/-! BlockPapersModel.grams()I  -/
abbrev G_X3_grams (D : va_G) (l : Launch) (as : List Value) (h0 hF : AH) (o : Out) : CT := (D, l, (yX3_grams.cls, yX3_grams, cX3_grams, 3, (Option.some .int), 2, 70, []), as, h0, hF, o)
theorem hc_X3_grams {D : va_G} {l : Launch} {as : List Value} {h0 hF : AH} {o : Out} : gC (G_X3_grams D l as h0 hF o) = cX3_grams := rfl
theorem ho_X3_grams {D : va_G} {l : Launch} {as : List Value} {h0 hF : AH} {o : Out} : gO (G_X3_grams D l as h0 hF o) = "BlockPapersModel" := rfl
theorem hp_X3_grams {D : va_G} {l : Launch} {as : List Value} {h0 hF : AH} {o : Out} (pc : Nat) : ∀ z ∈ tableOf (gHd (G_X3_grams D l as h0 hF o)), covers z pc = false := hpN
def fb_X3_grams_l4 (rec : Nat → Int32 → Int32 → AH → Option (Int32 × AH)) (x0 : Nat) (x1 : Int32) (x2 : Int32) (h : AH) : Option (Int32 × AH) :=
  bd (gtR h 2 x0 1) fun v1 =>
  bd (ldI h 0 v1 (1 : Int32)) fun v2 =>
  if v2 ≤ x2 then (
    some (x1, h)
  ) else (
    gd (isC h 2 x0) <|
    bd2 (f_X3_inkRow x0 x2 (2 : Int32) h) fun r4 h5 =>
    rec x0 (x1 + r4) (x2 + 1) h5
  )
def f_X3_grams_l4 : Nat → Nat → Int32 → Int32 → AH → Option (Int32 × AH)
  | 0 => fun _ _ _ _ => none
  | n + 1 => fb_X3_grams_l4 (f_X3_grams_l4 n) 
theorem w_X3_grams_l4 (D : va_G) (l : Launch) (hl : l.stackTraces = false) (as : List Value) (h0 : AH) {r : Int32} {hF : AH} : ∀ (n : Nat) (x0 : Nat) (x1 : Int32) (x2 : Int32) (h : AH), f_X3_grams_l4 n x0 x1 x2 h = some (r, hF) → V (G_X3_grams D l as h0 hF (oI r)) h 4 [(0, .ref x0), (1, .int x1), (2, .int x2)] [] := by
  intro n; induction n with
  | zero => intro x0 x1 x2 h e; exact absurd (show (none : Option (Int32 × AH)) = some _ from e) (fun z => nomatch z)
  | succ n IH =>
    intro x0 x1 x2 h e
    have e : fb_X3_grams_l4 (f_X3_grams_l4 n) x0 x1 x2 h = some (r, hF) := e
    unfold fb_X3_grams_l4 at e
    refine v_iload_n (pc' := 5) hc_X3_grams dX3_grams_4 rfl rfl 2 rfl ?_
    refine v_aload_n (pc' := 6) hc_X3_grams dX3_grams_5 rfl rfl 0 rfl ?_
    refine v_gfR (pc' := 9) hc_X3_grams ho_X3_grams KX3 1 (Nat.le_of_ble_eq_true rfl) q2243 (Or.inl rfl) dX3_grams_6 rfl e (fun v1 _ e => ?_)
    refine v_iconst (pc' := 10) (v := 1) hc_X3_grams dX3_grams_9 rfl rfl ?_
    refine v_iald (pc' := 11) hc_X3_grams dX3_grams_10 rfl e (fun v2 _ e => ?_)
    refine v_icmp_ge (pt := 29) (pf := 14) hc_X3_grams dX3_grams_11 rfl rfl e (fun _ e => ?_) (fun _ e => ?_)
    · refine v_iload_n (pc' := 30) hc_X3_grams dX3_grams_29 rfl rfl 1 rfl ?_
      obtain ⟨rfl, rfl⟩ := ret_of e
      exact v_iret hc_X3_grams rfl dX3_grams_30 rfl rfl
    · refine v_iload_n (pc' := 15) hc_X3_grams dX3_grams_14 rfl rfl 1 rfl ?_
      refine v_aload_n (pc' := 16) hc_X3_grams dX3_grams_15 rfl rfl 0 rfl ?_
      refine v_iload_n (pc' := 17) hc_X3_grams dX3_grams_16 rfl rfl 2 rfl ?_
      refine v_iconst (pc' := 18) (v := 2) hc_X3_grams dX3_grams_17 rfl rfl ?_
      obtain ⟨c3, e⟩ := gd_of e
      obtain ⟨r4, h5, e6, e⟩ := bd2_of e
      refine k_V (pc' := 21) (ci := 2) (n := 2) hc_X3_grams ho_X3_grams rfl c3 (w_X3_inkRow D l hl x0 x2 (2 : Int32) h e6) (wA_l q2391) q2393 (wA_l qs36) q85 q2394 hy_145 ⟨Nat.le_of_ble_eq_true rfl, Nat.le_of_ble_eq_true rfl⟩ rfl rfl (Nat.le_of_ble_eq_true rfl) dX3_grams_18 rfl (kS ?_) kN
      refine v_iadd (pc' := 22) hc_X3_grams dX3_grams_21 rfl ?_
      refine v_istore_n (pc' := 23) (lv' := [(1, .int (x1 + r4)), (0, .ref x0), (2, .int x2)]) hc_X3_grams dX3_grams_22 rfl rfl (Nat.le_of_ble_eq_true rfl) rfl ?_
      refine v_iinc (pc' := 26) (lv' := [(2, .int (x2 + 1)), (1, .int (x1 + r4)), (0, .ref x0)]) (v := x2 + 1) hc_X3_grams dX3_grams_23 rfl 2 rfl rfl (Nat.le_of_ble_eq_true rfl) rfl ?_
      refine v_goto (pt := 4) hc_X3_grams dX3_grams_26 rfl ?_
      refine v_pick [2, 1, 0] rfl ?_
      exact IH x0 (x1 + r4) (x2 + 1) h5 e
def f_X3_grams (x0 : Nat) (h : AH) : Option (Int32 × AH) :=
  f_X3_grams_l4 NN x0 (0 : Int32) (0 : Int32) h
theorem v_X3_grams (D : va_G) (l : Launch) (hl : l.stackTraces = false) (as : List Value) (h0 : AH) {r : Int32} {hF : AH} (x0 : Nat) (h : AH) (e : f_X3_grams x0 h = some (r, hF)) : V (G_X3_grams D l as h0 hF (oI r)) h 0 [(0, .ref x0)] [] := by
  unfold f_X3_grams at e
  refine v_iconst (pc' := 1) (v := 0) hc_X3_grams dX3_grams_0 rfl rfl ?_
  refine v_istore_n (pc' := 2) (lv' := [(1, .int (0 : Int32)), (0, .ref x0)]) hc_X3_grams dX3_grams_1 rfl rfl (Nat.le_of_ble_eq_true rfl) rfl ?_
  refine v_iconst (pc' := 3) (v := 0) hc_X3_grams dX3_grams_2 rfl rfl ?_
  refine v_istore_n (pc' := 4) (lv' := [(2, .int (0 : Int32)), (1, .int (0 : Int32)), (0, .ref x0)]) hc_X3_grams dX3_grams_3 rfl rfl (Nat.le_of_ble_eq_true rfl) rfl ?_
  refine v_pick [2, 1, 0] rfl ?_
  exact w_X3_grams_l4 D l hl as h0 NN x0 (0 : Int32) (0 : Int32) h e
theorem w_X3_grams (D : va_G) (l : Launch) (hl : l.stackTraces = false) (x0 : Nat) (h : AH) {r : Int32} {hF : AH} (e : f_X3_grams x0 h = some (r, hF)) : MetV D l yX3_grams (Cond.code yX3_grams cX3_grams 3 (Option.some .int)) 2 70 [.ref x0] h hF (oI r) :=
  met_ofF (by decide +kernel) hl (Nat.le_of_ble_eq_true rfl) rfl (v_X3_grams D l hl [.ref x0] h x0 h e)
/-! BlockPapersModel.number(I)I  -/
abbrev G_X3_number (D : va_G) (l : Launch) (as : List Value) (h0 hF : AH) (o : Out) : CT := (D, l, (yX3_number.cls, yX3_number, cX3_number, 2, (Option.some .int), 4, 113, []), as, h0, hF, o)
theorem hc_X3_number {D : va_G} {l : Launch} {as : List Value} {h0 hF : AH} {o : Out} : gC (G_X3_number D l as h0 hF o) = cX3_number := rfl
theorem ho_X3_number {D : va_G} {l : Launch} {as : List Value} {h0 hF : AH} {o : Out} : gO (G_X3_number D l as h0 hF o) = "BlockPapersModel" := rfl
theorem hp_X3_number {D : va_G} {l : Launch} {as : List Value} {h0 hF : AH} {o : Out} (pc : Nat) : ∀ z ∈ tableOf (gHd (G_X3_number D l as h0 hF o)), covers z pc = false := hpN
def f_X3_number (x0 : Nat) (x1 : Int32) (h : AH) : Option (Int32 × AH) :=
  bd (stF h 2 x0 0 (.int (0 : Int32))) fun h1 =>
  if x1 = 0 then (
    bd (gtR h1 2 x0 1) fun v2 =>
    bd (ldI h1 0 v2 (0 : Int32)) fun v3 =>
    some (v3, h1)
  ) else (
  if x1 = 1 then (
    bd (gtR h1 2 x0 1) fun v5 =>
    bd (ldI h1 0 v5 (1 : Int32)) fun v6 =>
    some (v6, h1)
  ) else (
  if x1 = 2 then (
    bd (gtR h1 2 x0 1) fun v8 =>
    bd (ldI h1 0 v8 (2 : Int32)) fun v9 =>
    some (v9, h1)
  ) else (
  if x1 = 3 then (
    gd (isC h1 2 x0) <|
    bd2 (f_X3_given x0 (0 : Int32) h1) fun r12 h13 =>
    some (r12, h13)
  ) else (
  if x1 = 4 then (
    bd (gtR h1 2 x0 1) fun v16 =>
    bd (ldI h1 0 v16 (3 : Int32)) fun v17 =>
    some (v17, h1)
  ) else (
  if x1 = 5 then (
    gd (isC h1 2 x0) <|
    bd2 (f_X3_hung x0 (0 : Int32) h1) fun r20 h21 =>
    some (r20, h21)
  ) else (
  if x1 = 6 then (
    gd (isC h1 2 x0) <|
    bd2 (f_X3_fullRooms x0 h1) fun r25 h26 =>
    some (r25, h26)
  ) else (
  if x1 = 7 then (
    bd (gtR h1 2 x0 1) fun v29 =>
    bd (ldI h1 0 v29 (4 : Int32)) fun v30 =>
    some (v30, h1)
  ) else (
  if x1 = 8 then (
    gd (isC h1 2 x0) <|
    bd2 (f_X3_hung x0 (1 : Int32) h1) fun r33 h34 =>
    some (r33, h34)
  ) else (
  if x1 = 9 then (
    bd (gtR h1 2 x0 1) fun v37 =>
    bd (ldI h1 0 v37 (5 : Int32)) fun v38 =>
    some (v38, h1)
  ) else (
  if x1 = 10 then (
    bd (gtR h1 2 x0 1) fun v40 =>
    bd (ldI h1 0 v40 (6 : Int32)) fun v41 =>
    some (v41, h1)
  ) else (
  if x1 = 11 then (
    gd (isC h1 2 x0) <|
    bd2 (f_X3_lefts x0 h1) fun r44 h45 =>
    some (r44, h45)
  ) else (
  if x1 = 12 then (
    gd (isC h1 2 x0) <|
    bd2 (f_X3_given x0 (1 : Int32) h1) fun r49 h50 =>
    some (r49, h50)
  ) else (
  if x1 = 13 then (
    gd (isC h1 2 x0) <|
    bd2 (f_X3_grams x0 h1) fun r54 h55 =>
    some (r54, h55)
  ) else (
  if x1 = 14 then (
    bd (gtI h1 2 x0 6) fun v58 =>
    some (v58, h1)
  ) else (
  if x1 = 15 then (
    bd (gtI h1 2 x0 11) fun v60 =>
    some (v60, h1)
  ) else (
  gd (isC h1 2 x0) <|
  bd2 (f_X3_fails x0 (1 : Int32) h1) fun r63 h64 =>
  some (r63, h64)
  ))))))))))))))))
theorem v_X3_number (D : va_G) (l : Launch) (hl : l.stackTraces = false) (as : List Value) (h0 : AH) {r : Int32} {hF : AH} (x0 : Nat) (x1 : Int32) (h : AH) (e : f_X3_number x0 x1 h = some (r, hF)) : V (G_X3_number D l as h0 hF (oI r)) h 0 [(0, .ref x0), (1, .int x1)] [] := by
  unfold f_X3_number at e
  refine v_aload_n (pc' := 1) hc_X3_number dX3_number_0 rfl rfl 0 rfl ?_
  refine v_iconst (pc' := 2) (v := 0) hc_X3_number dX3_number_1 rfl rfl ?_
  refine v_pf (pc' := 5) hc_X3_number ho_X3_number KX3 0 (Nat.le_of_ble_eq_true rfl) q2242 (Or.inl rfl) rfl dX3_number_2 rfl rfl rfl e (fun h1 _ e => ?_)
  refine v_iload_n (pc' := 6) hc_X3_number dX3_number_5 rfl rfl 1 rfl ?_
  rcases ite_cs e with ⟨n4, e⟩ | ⟨n4, e⟩
  · refine v_tbl (off := 78) (pt := 84) hc_X3_number dX3_number_6 rfl rfl (by rw [n4]; rfl) rfl ?_
    refine v_aload_n (pc' := 85) hc_X3_number dX3_number_84 rfl rfl 0 rfl ?_
    refine v_gfR (pc' := 88) hc_X3_number ho_X3_number KX3 1 (Nat.le_of_ble_eq_true rfl) q2243 (Or.inl rfl) dX3_number_85 rfl e (fun v2 _ e => ?_)
    refine v_iconst (pc' := 89) (v := 0) hc_X3_number dX3_number_88 rfl rfl ?_
    refine v_iald (pc' := 90) hc_X3_number dX3_number_89 rfl e (fun v3 _ e => ?_)
    obtain ⟨rfl, rfl⟩ := ret_of e
    exact v_iret hc_X3_number rfl dX3_number_90 rfl rfl
  rcases ite_cs e with ⟨n7, e⟩ | ⟨n7, e⟩
  · refine v_tbl (off := 85) (pt := 91) hc_X3_number dX3_number_6 rfl rfl (by rw [n7]; rfl) rfl ?_
    refine v_aload_n (pc' := 92) hc_X3_number dX3_number_91 rfl rfl 0 rfl ?_
    refine v_gfR (pc' := 95) hc_X3_number ho_X3_number KX3 1 (Nat.le_of_ble_eq_true rfl) q2243 (Or.inl rfl) dX3_number_92 rfl e (fun v5 _ e => ?_)
    refine v_iconst (pc' := 96) (v := 1) hc_X3_number dX3_number_95 rfl rfl ?_
    refine v_iald (pc' := 97) hc_X3_number dX3_number_96 rfl e (fun v6 _ e => ?_)
    obtain ⟨rfl, rfl⟩ := ret_of e
    exact v_iret hc_X3_number rfl dX3_number_97 rfl rfl
  rcases ite_cs e with ⟨n10, e⟩ | ⟨n10, e⟩
  · refine v_tbl (off := 92) (pt := 98) hc_X3_number dX3_number_6 rfl rfl (by rw [n10]; rfl) rfl ?_
    refine v_aload_n (pc' := 99) hc_X3_number dX3_number_98 rfl rfl 0 rfl ?_
    refine v_gfR (pc' := 102) hc_X3_number ho_X3_number KX3 1 (Nat.le_of_ble_eq_true rfl) q2243 (Or.inl rfl) dX3_number_99 rfl e (fun v8 _ e => ?_)
    refine v_iconst (pc' := 103) (v := 2) hc_X3_number dX3_number_102 rfl rfl ?_
    refine v_iald (pc' := 104) hc_X3_number dX3_number_103 rfl e (fun v9 _ e => ?_)
    obtain ⟨rfl, rfl⟩ := ret_of e
    exact v_iret hc_X3_number rfl dX3_number_104 rfl rfl
  rcases ite_cs e with ⟨n15, e⟩ | ⟨n15, e⟩
  · refine v_tbl (off := 99) (pt := 105) hc_X3_number dX3_number_6 rfl rfl (by rw [n15]; rfl) rfl ?_
    refine v_aload_n (pc' := 106) hc_X3_number dX3_number_105 rfl rfl 0 rfl ?_
    refine v_iconst (pc' := 107) (v := 0) hc_X3_number dX3_number_106 rfl rfl ?_
    obtain ⟨c11, e⟩ := gd_of e
    obtain ⟨r12, h13, e14, e⟩ := bd2_of e
    refine k_V (pc' := 110) (ci := 2) (n := 1) hc_X3_number ho_X3_number rfl c11 (w_X3_given D l hl x0 (0 : Int32) h1 e14) (wA_l q2579) q2581 (wA_l qs62) q85 q2582 hy_277 ⟨Nat.le_of_ble_eq_true rfl, Nat.le_of_ble_eq_true rfl⟩ rfl rfl (Nat.le_of_ble_eq_true rfl) dX3_number_107 rfl (kS ?_) kN
    obtain ⟨rfl, rfl⟩ := ret_of e
    exact v_iret hc_X3_number rfl dX3_number_110 rfl rfl
  rcases ite_cs e with ⟨n18, e⟩ | ⟨n18, e⟩
  · refine v_tbl (off := 105) (pt := 111) hc_X3_number dX3_number_6 rfl rfl (by rw [n18]; rfl) rfl ?_
    refine v_aload_n (pc' := 112) hc_X3_number dX3_number_111 rfl rfl 0 rfl ?_
    refine v_gfR (pc' := 115) hc_X3_number ho_X3_number KX3 1 (Nat.le_of_ble_eq_true rfl) q2243 (Or.inl rfl) dX3_number_112 rfl e (fun v16 _ e => ?_)
    refine v_iconst (pc' := 116) (v := 3) hc_X3_number dX3_number_115 rfl rfl ?_
    refine v_iald (pc' := 117) hc_X3_number dX3_number_116 rfl e (fun v17 _ e => ?_)
    obtain ⟨rfl, rfl⟩ := ret_of e
    exact v_iret hc_X3_number rfl dX3_number_117 rfl rfl
  rcases ite_cs e with ⟨n23, e⟩ | ⟨n23, e⟩
  · refine v_tbl (off := 112) (pt := 118) hc_X3_number dX3_number_6 rfl rfl (by rw [n23]; rfl) rfl ?_
    refine v_aload_n (pc' := 119) hc_X3_number dX3_number_118 rfl rfl 0 rfl ?_
    refine v_iconst (pc' := 120) (v := 0) hc_X3_number dX3_number_119 rfl rfl ?_
    obtain ⟨c19, e⟩ := gd_of e
    obtain ⟨r20, h21, e22, e⟩ := bd2_of e
    refine k_V (pc' := 123) (ci := 2) (n := 1) hc_X3_number ho_X3_number rfl c19 (w_X3_hung D l hl x0 (0 : Int32) h1 e22) (wA_l q2583) q2585 (wA_l qs63) q85 q2586 hy_278 ⟨Nat.le_of_ble_eq_true rfl, Nat.le_of_ble_eq_true rfl⟩ rfl rfl (Nat.le_of_ble_eq_true rfl) dX3_number_120 rfl (kS ?_) kN
    obtain ⟨rfl, rfl⟩ := ret_of e
    exact v_iret hc_X3_number rfl dX3_number_123 rfl rfl
  rcases ite_cs e with ⟨n28, e⟩ | ⟨n28, e⟩
  · refine v_tbl (off := 118) (pt := 124) hc_X3_number dX3_number_6 rfl rfl (by rw [n28]; rfl) rfl ?_
    refine v_aload_n (pc' := 125) hc_X3_number dX3_number_124 rfl rfl 0 rfl ?_
    obtain ⟨c24, e⟩ := gd_of e
    obtain ⟨r25, h26, e27, e⟩ := bd2_of e
    refine k_V (pc' := 128) (ci := 2) (n := 0) hc_X3_number ho_X3_number rfl c24 (w_X3_fullRooms D l hl x0 h1 e27) (wA_l q2587) q2589 (wA_l qs64) q85 q2590 hy_279 ⟨Nat.le_of_ble_eq_true rfl, Nat.le_of_ble_eq_true rfl⟩ rfl rfl (Nat.le_of_ble_eq_true rfl) dX3_number_125 rfl (kS ?_) kN
    obtain ⟨rfl, rfl⟩ := ret_of e
    exact v_iret hc_X3_number rfl dX3_number_128 rfl rfl
  rcases ite_cs e with ⟨n31, e⟩ | ⟨n31, e⟩
  · refine v_tbl (off := 123) (pt := 129) hc_X3_number dX3_number_6 rfl rfl (by rw [n31]; rfl) rfl ?_
    refine v_aload_n (pc' := 130) hc_X3_number dX3_number_129 rfl rfl 0 rfl ?_
    refine v_gfR (pc' := 133) hc_X3_number ho_X3_number KX3 1 (Nat.le_of_ble_eq_true rfl) q2243 (Or.inl rfl) dX3_number_130 rfl e (fun v29 _ e => ?_)
    refine v_iconst (pc' := 134) (v := 4) hc_X3_number dX3_number_133 rfl rfl ?_
    refine v_iald (pc' := 135) hc_X3_number dX3_number_134 rfl e (fun v30 _ e => ?_)
    obtain ⟨rfl, rfl⟩ := ret_of e
    exact v_iret hc_X3_number rfl dX3_number_135 rfl rfl
  rcases ite_cs e with ⟨n36, e⟩ | ⟨n36, e⟩
  · refine v_tbl (off := 130) (pt := 136) hc_X3_number dX3_number_6 rfl rfl (by rw [n36]; rfl) rfl ?_
    refine v_aload_n (pc' := 137) hc_X3_number dX3_number_136 rfl rfl 0 rfl ?_
    refine v_iconst (pc' := 138) (v := 1) hc_X3_number dX3_number_137 rfl rfl ?_
    obtain ⟨c32, e⟩ := gd_of e
    obtain ⟨r33, h34, e35, e⟩ := bd2_of e
    refine k_V (pc' := 141) (ci := 2) (n := 1) hc_X3_number ho_X3_number rfl c32 (w_X3_hung D l hl x0 (1 : Int32) h1 e35) (wA_l q2583) q2585 (wA_l qs63) q85 q2586 hy_278 ⟨Nat.le_of_ble_eq_true rfl, Nat.le_of_ble_eq_true rfl⟩ rfl rfl (Nat.le_of_ble_eq_true rfl) dX3_number_138 rfl (kS ?_) kN
    obtain ⟨rfl, rfl⟩ := ret_of e
    exact v_iret hc_X3_number rfl dX3_number_141 rfl rfl
  rcases ite_cs e with ⟨n39, e⟩ | ⟨n39, e⟩
  · refine v_tbl (off := 136) (pt := 142) hc_X3_number dX3_number_6 rfl rfl (by rw [n39]; rfl) rfl ?_
    refine v_aload_n (pc' := 143) hc_X3_number dX3_number_142 rfl rfl 0 rfl ?_
    refine v_gfR (pc' := 146) hc_X3_number ho_X3_number KX3 1 (Nat.le_of_ble_eq_true rfl) q2243 (Or.inl rfl) dX3_number_143 rfl e (fun v37 _ e => ?_)
    refine v_iconst (pc' := 147) (v := 5) hc_X3_number dX3_number_146 rfl rfl ?_
    refine v_iald (pc' := 148) hc_X3_number dX3_number_147 rfl e (fun v38 _ e => ?_)
    obtain ⟨rfl, rfl⟩ := ret_of e
    exact v_iret hc_X3_number rfl dX3_number_148 rfl rfl
  rcases ite_cs e with ⟨n42, e⟩ | ⟨n42, e⟩
  · refine v_tbl (off := 143) (pt := 149) hc_X3_number dX3_number_6 rfl rfl (by rw [n42]; rfl) rfl ?_
    refine v_aload_n (pc' := 150) hc_X3_number dX3_number_149 rfl rfl 0 rfl ?_
    refine v_gfR (pc' := 153) hc_X3_number ho_X3_number KX3 1 (Nat.le_of_ble_eq_true rfl) q2243 (Or.inl rfl) dX3_number_150 rfl e (fun v40 _ e => ?_)
    refine v_bipush (pc' := 155) (v := 6) hc_X3_number dX3_number_153 rfl rfl ?_
    refine v_iald (pc' := 156) hc_X3_number dX3_number_155 rfl e (fun v41 _ e => ?_)
    obtain ⟨rfl, rfl⟩ := ret_of e
    exact v_iret hc_X3_number rfl dX3_number_156 rfl rfl
  rcases ite_cs e with ⟨n47, e⟩ | ⟨n47, e⟩
  · refine v_tbl (off := 151) (pt := 157) hc_X3_number dX3_number_6 rfl rfl (by rw [n47]; rfl) rfl ?_
    refine v_aload_n (pc' := 158) hc_X3_number dX3_number_157 rfl rfl 0 rfl ?_
    obtain ⟨c43, e⟩ := gd_of e
    obtain ⟨r44, h45, e46, e⟩ := bd2_of e
    refine k_V (pc' := 161) (ci := 2) (n := 0) hc_X3_number ho_X3_number rfl c43 (w_X3_lefts D l hl x0 h1 e46) (wA_l q2591) q2593 (wA_l qs65) q85 q2594 hy_280 ⟨Nat.le_of_ble_eq_true rfl, Nat.le_of_ble_eq_true rfl⟩ rfl rfl (Nat.le_of_ble_eq_true rfl) dX3_number_158 rfl (kS ?_) kN
    obtain ⟨rfl, rfl⟩ := ret_of e
    exact v_iret hc_X3_number rfl dX3_number_161 rfl rfl
  rcases ite_cs e with ⟨n52, e⟩ | ⟨n52, e⟩
  · refine v_tbl (off := 156) (pt := 162) hc_X3_number dX3_number_6 rfl rfl (by rw [n52]; rfl) rfl ?_
    refine v_aload_n (pc' := 163) hc_X3_number dX3_number_162 rfl rfl 0 rfl ?_
    refine v_iconst (pc' := 164) (v := 1) hc_X3_number dX3_number_163 rfl rfl ?_
    obtain ⟨c48, e⟩ := gd_of e
    obtain ⟨r49, h50, e51, e⟩ := bd2_of e
    refine k_V (pc' := 167) (ci := 2) (n := 1) hc_X3_number ho_X3_number rfl c48 (w_X3_given D l hl x0 (1 : Int32) h1 e51) (wA_l q2579) q2581 (wA_l qs62) q85 q2582 hy_277 ⟨Nat.le_of_ble_eq_true rfl, Nat.le_of_ble_eq_true rfl⟩ rfl rfl (Nat.le_of_ble_eq_true rfl) dX3_number_164 rfl (kS ?_) kN
    obtain ⟨rfl, rfl⟩ := ret_of e
    exact v_iret hc_X3_number rfl dX3_number_167 rfl rfl
  rcases ite_cs e with ⟨n57, e⟩ | ⟨n57, e⟩
  · refine v_tbl (off := 162) (pt := 168) hc_X3_number dX3_number_6 rfl rfl (by rw [n57]; rfl) rfl ?_
    refine v_aload_n (pc' := 169) hc_X3_number dX3_number_168 rfl rfl 0 rfl ?_
    obtain ⟨c53, e⟩ := gd_of e
    obtain ⟨r54, h55, e56, e⟩ := bd2_of e
    refine k_V (pc' := 172) (ci := 2) (n := 0) hc_X3_number ho_X3_number rfl c53 (w_X3_grams D l hl x0 h1 e56) (wA_l q2595) q2597 (wA_l qs66) q85 q2598 hy_281 ⟨Nat.le_of_ble_eq_true rfl, Nat.le_of_ble_eq_true rfl⟩ rfl rfl (Nat.le_of_ble_eq_true rfl) dX3_number_169 rfl (kS ?_) kN
    obtain ⟨rfl, rfl⟩ := ret_of e
    exact v_iret hc_X3_number rfl dX3_number_172 rfl rfl
  rcases ite_cs e with ⟨n59, e⟩ | ⟨n59, e⟩
  · refine v_tbl (off := 167) (pt := 173) hc_X3_number dX3_number_6 rfl rfl (by rw [n59]; rfl) rfl ?_
    refine v_aload_n (pc' := 174) hc_X3_number dX3_number_173 rfl rfl 0 rfl ?_
    refine v_gfI (pc' := 177) hc_X3_number ho_X3_number KX3 6 (Nat.le_of_ble_eq_true rfl) q2248 (Or.inl rfl) dX3_number_174 rfl e (fun v58 _ e => ?_)
    obtain ⟨rfl, rfl⟩ := ret_of e
    exact v_iret hc_X3_number rfl dX3_number_177 rfl rfl
  rcases ite_cs e with ⟨n61, e⟩ | ⟨n61, e⟩
  · refine v_tbl (off := 172) (pt := 178) hc_X3_number dX3_number_6 rfl rfl (by rw [n61]; rfl) rfl ?_
    refine v_aload_n (pc' := 179) hc_X3_number dX3_number_178 rfl rfl 0 rfl ?_
    refine v_gfI (pc' := 182) hc_X3_number ho_X3_number KX3 11 (Nat.le_of_ble_eq_true rfl) q2253 (Or.inl rfl) dX3_number_179 rfl e (fun v60 _ e => ?_)
    obtain ⟨rfl, rfl⟩ := ret_of e
    exact v_iret hc_X3_number rfl dX3_number_182 rfl rfl
  refine v_tbl (off := 177) (pt := 183) hc_X3_number dX3_number_6 rfl rfl (lk_c (lk_n n4 rfl) (lk_c (lk_n n7 rfl) (lk_c (lk_n n10 rfl) (lk_c (lk_n n15 rfl) (lk_c (lk_n n18 rfl) (lk_c (lk_n n23 rfl) (lk_c (lk_n n28 rfl) (lk_c (lk_n n31 rfl) (lk_c (lk_n n36 rfl) (lk_c (lk_n n39 rfl) (lk_c (lk_n n42 rfl) (lk_c (lk_n n47 rfl) (lk_c (lk_n n52 rfl) (lk_c (lk_n n57 rfl) (lk_c (lk_n n59 rfl) (lk_c (lk_n n61 rfl) lk_z)))))))))))))))) rfl ?_
  refine v_aload_n (pc' := 184) hc_X3_number dX3_number_183 rfl rfl 0 rfl ?_
  refine v_iconst (pc' := 185) (v := 1) hc_X3_number dX3_number_184 rfl rfl ?_
  obtain ⟨c62, e⟩ := gd_of e
  obtain ⟨r63, h64, e65, e⟩ := bd2_of e
  refine k_V (pc' := 188) (ci := 2) (n := 1) hc_X3_number ho_X3_number rfl c62 (w_X3_fails D l hl x0 (1 : Int32) h1 e65) (wA_l q2351) q2353 (wA_l qs30) q85 q2354 hy_119 ⟨Nat.le_of_ble_eq_true rfl, Nat.le_of_ble_eq_true rfl⟩ rfl rfl (Nat.le_of_ble_eq_true rfl) dX3_number_185 rfl (kS ?_) kN
  obtain ⟨rfl, rfl⟩ := ret_of e
  exact v_iret hc_X3_number rfl dX3_number_188 rfl rfl
theorem w_X3_number (D : va_G) (l : Launch) (hl : l.stackTraces = false) (x0 : Nat) (x1 : Int32) (h : AH) {r : Int32} {hF : AH} (e : f_X3_number x0 x1 h = some (r, hF)) : MetV D l yX3_number (Cond.code yX3_number cX3_number 2 (Option.some .int)) 4 113 [.ref x0, .int x1] h hF (oI r) :=
  met_ofF (by decide +kernel) hl (Nat.le_of_ble_eq_true rfl) rfl (v_X3_number D l hl [.ref x0, .int x1] h x0 x1 h e)
/-! BlockPapersModel.printedAgain()I  -/
abbrev G_X3_printedAgain (D : va_G) (l : Launch) (as : List Value) (h0 hF : AH) (o : Out) : CT := (D, l, (yX3_printedAgain.cls, yX3_printedAgain, cX3_printedAgain, 1, (Option.some .int), 4, 113, []), as, h0, hF, o)
theorem hc_X3_printedAgain {D : va_G} {l : Launch} {as : List Value} {h0 hF : AH} {o : Out} : gC (G_X3_printedAgain D l as h0 hF o) = cX3_printedAgain := rfl
theorem ho_X3_printedAgain {D : va_G} {l : Launch} {as : List Value} {h0 hF : AH} {o : Out} : gO (G_X3_printedAgain D l as h0 hF o) = "BlockPapersModel" := rfl
theorem hp_X3_printedAgain {D : va_G} {l : Launch} {as : List Value} {h0 hF : AH} {o : Out} (pc : Nat) : ∀ z ∈ tableOf (gHd (G_X3_printedAgain D l as h0 hF o)), covers z pc = false := hpN
def f_X3_printedAgain (x0 : Nat) (h : AH) : Option (Int32 × AH) :=
  bd (stF h 2 x0 0 (.int (0 : Int32))) fun h1 =>
  gd (isC h1 2 x0) <|
  bd2 (f_X3_hung x0 (1 : Int32) h1) fun r3 h4 =>
  bd (gtR h4 2 x0 1) fun v6 =>
  bd (ldI h4 0 v6 (5 : Int32)) fun v7 =>
  bd (gtR h4 2 x0 1) fun v8 =>
  bd (ldI h4 0 v8 (6 : Int32)) fun v9 =>
  gd (isC h4 2 x0) <|
  bd2 (f_X3_lefts x0 h4) fun r11 h12 =>
  gd (isC h12 2 x0) <|
  bd2 (f_X3_given x0 (1 : Int32) h12) fun r15 h16 =>
  some (((((r3 + v7) + v9) + r11) + r15), h16)
theorem v_X3_printedAgain (D : va_G) (l : Launch) (hl : l.stackTraces = false) (as : List Value) (h0 : AH) {r : Int32} {hF : AH} (x0 : Nat) (h : AH) (e : f_X3_printedAgain x0 h = some (r, hF)) : V (G_X3_printedAgain D l as h0 hF (oI r)) h 0 [(0, .ref x0)] [] := by
  unfold f_X3_printedAgain at e
  refine v_aload_n (pc' := 1) hc_X3_printedAgain dX3_printedAgain_0 rfl rfl 0 rfl ?_
  refine v_iconst (pc' := 2) (v := 0) hc_X3_printedAgain dX3_printedAgain_1 rfl rfl ?_
  refine v_pf (pc' := 5) hc_X3_printedAgain ho_X3_printedAgain KX3 0 (Nat.le_of_ble_eq_true rfl) q2242 (Or.inl rfl) rfl dX3_printedAgain_2 rfl rfl rfl e (fun h1 _ e => ?_)
  refine v_aload_n (pc' := 6) hc_X3_printedAgain dX3_printedAgain_5 rfl rfl 0 rfl ?_
  refine v_iconst (pc' := 7) (v := 1) hc_X3_printedAgain dX3_printedAgain_6 rfl rfl ?_
  obtain ⟨c2, e⟩ := gd_of e
  obtain ⟨r3, h4, e5, e⟩ := bd2_of e
  refine k_V (pc' := 10) (ci := 2) (n := 1) hc_X3_printedAgain ho_X3_printedAgain rfl c2 (w_X3_hung D l hl x0 (1 : Int32) h1 e5) (wA_l q2583) q2585 (wA_l qs63) q85 q2586 hy_278 ⟨Nat.le_of_ble_eq_true rfl, Nat.le_of_ble_eq_true rfl⟩ rfl rfl (Nat.le_of_ble_eq_true rfl) dX3_printedAgain_7 rfl (kS ?_) kN
  refine v_aload_n (pc' := 11) hc_X3_printedAgain dX3_printedAgain_10 rfl rfl 0 rfl ?_
  refine v_gfR (pc' := 14) hc_X3_printedAgain ho_X3_printedAgain KX3 1 (Nat.le_of_ble_eq_true rfl) q2243 (Or.inl rfl) dX3_printedAgain_11 rfl e (fun v6 _ e => ?_)
  refine v_iconst (pc' := 15) (v := 5) hc_X3_printedAgain dX3_printedAgain_14 rfl rfl ?_
  refine v_iald (pc' := 16) hc_X3_printedAgain dX3_printedAgain_15 rfl e (fun v7 _ e => ?_)
  refine v_iadd (pc' := 17) hc_X3_printedAgain dX3_printedAgain_16 rfl ?_
  refine v_aload_n (pc' := 18) hc_X3_printedAgain dX3_printedAgain_17 rfl rfl 0 rfl ?_
  refine v_gfR (pc' := 21) hc_X3_printedAgain ho_X3_printedAgain KX3 1 (Nat.le_of_ble_eq_true rfl) q2243 (Or.inl rfl) dX3_printedAgain_18 rfl e (fun v8 _ e => ?_)
  refine v_bipush (pc' := 23) (v := 6) hc_X3_printedAgain dX3_printedAgain_21 rfl rfl ?_
  refine v_iald (pc' := 24) hc_X3_printedAgain dX3_printedAgain_23 rfl e (fun v9 _ e => ?_)
  refine v_iadd (pc' := 25) hc_X3_printedAgain dX3_printedAgain_24 rfl ?_
  refine v_aload_n (pc' := 26) hc_X3_printedAgain dX3_printedAgain_25 rfl rfl 0 rfl ?_
  obtain ⟨c10, e⟩ := gd_of e
  obtain ⟨r11, h12, e13, e⟩ := bd2_of e
  refine k_V (pc' := 29) (ci := 2) (n := 0) hc_X3_printedAgain ho_X3_printedAgain rfl c10 (w_X3_lefts D l hl x0 h4 e13) (wA_l q2591) q2593 (wA_l qs65) q85 q2594 hy_280 ⟨Nat.le_of_ble_eq_true rfl, Nat.le_of_ble_eq_true rfl⟩ rfl rfl (Nat.le_of_ble_eq_true rfl) dX3_printedAgain_26 rfl (kS ?_) kN
  refine v_iadd (pc' := 30) hc_X3_printedAgain dX3_printedAgain_29 rfl ?_
  refine v_aload_n (pc' := 31) hc_X3_printedAgain dX3_printedAgain_30 rfl rfl 0 rfl ?_
  refine v_iconst (pc' := 32) (v := 1) hc_X3_printedAgain dX3_printedAgain_31 rfl rfl ?_
  obtain ⟨c14, e⟩ := gd_of e
  obtain ⟨r15, h16, e17, e⟩ := bd2_of e
  refine k_V (pc' := 35) (ci := 2) (n := 1) hc_X3_printedAgain ho_X3_printedAgain rfl c14 (w_X3_given D l hl x0 (1 : Int32) h12 e17) (wA_l q2579) q2581 (wA_l qs62) q85 q2582 hy_277 ⟨Nat.le_of_ble_eq_true rfl, Nat.le_of_ble_eq_true rfl⟩ rfl rfl (Nat.le_of_ble_eq_true rfl) dX3_printedAgain_32 rfl (kS ?_) kN
  refine v_iadd (pc' := 36) hc_X3_printedAgain dX3_printedAgain_35 rfl ?_
  obtain ⟨rfl, rfl⟩ := ret_of e
  exact v_iret hc_X3_printedAgain rfl dX3_printedAgain_36 rfl rfl
theorem w_X3_printedAgain (D : va_G) (l : Launch) (hl : l.stackTraces = false) (x0 : Nat) (h : AH) {r : Int32} {hF : AH} (e : f_X3_printedAgain x0 h = some (r, hF)) : MetV D l yX3_printedAgain (Cond.code yX3_printedAgain cX3_printedAgain 1 (Option.some .int)) 4 113 [.ref x0] h hF (oI r) :=
  met_ofF (by decide +kernel) hl (Nat.le_of_ble_eq_true rfl) rfl (v_X3_printedAgain D l hl [.ref x0] h x0 h e)
/-! BlockPapersModel.meanShade()D  -/
abbrev G_X3_meanShade (D : va_G) (l : Launch) (as : List Value) (h0 hF : AH) (o : Out) : CT := (D, l, (yX3_meanShade.cls, yX3_meanShade, cX3_meanShade, 3, (Option.some .double), 2, 70, []), as, h0, hF, o)
theorem hc_X3_meanShade {D : va_G} {l : Launch} {as : List Value} {h0 hF : AH} {o : Out} : gC (G_X3_meanShade D l as h0 hF o) = cX3_meanShade := rfl
theorem ho_X3_meanShade {D : va_G} {l : Launch} {as : List Value} {h0 hF : AH} {o : Out} : gO (G_X3_meanShade D l as h0 hF o) = "BlockPapersModel" := rfl
theorem hp_X3_meanShade {D : va_G} {l : Launch} {as : List Value} {h0 hF : AH} {o : Out} (pc : Nat) : ∀ z ∈ tableOf (gHd (G_X3_meanShade D l as h0 hF o)), covers z pc = false := hpN
def fb_X3_meanShade_l31 (rec : Nat → Int32 → Int32 → AH → Option (UInt64 × AH)) (x0 : Nat) (x1 : Int32) (x2 : Int32) (h : AH) : Option (UInt64 × AH) :=
  bd (gtR h 2 x0 1) fun v1 =>
  bd (ldI h 0 v1 (2 : Int32)) fun v2 =>
  if v2 ≤ x2 then (
    bd (gtR h 2 x0 1) fun v3 =>
    bd (ldI h 0 v3 (2 : Int32)) fun v4 =>
    gd (decide ((FP.ddiv (FP.i2d x1) (FP.i2d v4)) &&& 0x7fffffffffffffff ≤ 0x7ff0000000000000)) <|
    some ((FP.ddiv (FP.i2d x1) (FP.i2d v4)), h)
  ) else (
    gd (isC h 2 x0) <|
    bd2 (f_X3_rollRow x0 x2 (3 : Int32) h) fun r7 h8 =>
    rec x0 (x1 + r7) (x2 + 1) h8
  )
def f_X3_meanShade_l31 : Nat → Nat → Int32 → Int32 → AH → Option (UInt64 × AH)
  | 0 => fun _ _ _ _ => none
  | n + 1 => fb_X3_meanShade_l31 (f_X3_meanShade_l31 n) 
theorem w_X3_meanShade_l31 (D : va_G) (l : Launch) (hl : l.stackTraces = false) (as : List Value) (h0 : AH) {r : UInt64} {hF : AH} : ∀ (n : Nat) (x0 : Nat) (x1 : Int32) (x2 : Int32) (h : AH), f_X3_meanShade_l31 n x0 x1 x2 h = some (r, hF) → V (G_X3_meanShade D l as h0 hF (oD r)) h 31 [(0, .ref x0), (1, .int x1), (2, .int x2)] [] := by
  intro n; induction n with
  | zero => intro x0 x1 x2 h e; exact absurd (show (none : Option (UInt64 × AH)) = some _ from e) (fun z => nomatch z)
  | succ n IH =>
    intro x0 x1 x2 h e
    have e : fb_X3_meanShade_l31 (f_X3_meanShade_l31 n) x0 x1 x2 h = some (r, hF) := e
    unfold fb_X3_meanShade_l31 at e
    refine v_iload_n (pc' := 32) hc_X3_meanShade dX3_meanShade_31 rfl rfl 2 rfl ?_
    refine v_aload_n (pc' := 33) hc_X3_meanShade dX3_meanShade_32 rfl rfl 0 rfl ?_
    refine v_gfR (pc' := 36) hc_X3_meanShade ho_X3_meanShade KX3 1 (Nat.le_of_ble_eq_true rfl) q2243 (Or.inl rfl) dX3_meanShade_33 rfl e (fun v1 _ e => ?_)
    refine v_iconst (pc' := 37) (v := 2) hc_X3_meanShade dX3_meanShade_36 rfl rfl ?_
    refine v_iald (pc' := 38) hc_X3_meanShade dX3_meanShade_37 rfl e (fun v2 _ e => ?_)
    refine v_icmp_ge (pt := 56) (pf := 41) hc_X3_meanShade dX3_meanShade_38 rfl rfl e (fun _ e => ?_) (fun _ e => ?_)
    · refine v_iload_n (pc' := 57) hc_X3_meanShade dX3_meanShade_56 rfl rfl 1 rfl ?_
      refine v_i2d (pc' := 58) hc_X3_meanShade dX3_meanShade_57 rfl ?_
      refine v_aload_n (pc' := 59) hc_X3_meanShade dX3_meanShade_58 rfl rfl 0 rfl ?_
      refine v_gfR (pc' := 62) hc_X3_meanShade ho_X3_meanShade KX3 1 (Nat.le_of_ble_eq_true rfl) q2243 (Or.inl rfl) dX3_meanShade_59 rfl e (fun v3 _ e => ?_)
      refine v_iconst (pc' := 63) (v := 2) hc_X3_meanShade dX3_meanShade_62 rfl rfl ?_
      refine v_iald (pc' := 64) hc_X3_meanShade dX3_meanShade_63 rfl e (fun v4 _ e => ?_)
      refine v_i2d (pc' := 65) hc_X3_meanShade dX3_meanShade_64 rfl ?_
      obtain ⟨c5, e⟩ := gd_of e
      refine v_ddiv (pc' := 66) hc_X3_meanShade dX3_meanShade_65 rfl (vf64_of c5) ?_
      obtain ⟨rfl, rfl⟩ := ret_of e
      exact v_dret hc_X3_meanShade rfl dX3_meanShade_66 rfl rfl
    · refine v_iload_n (pc' := 42) hc_X3_meanShade dX3_meanShade_41 rfl rfl 1 rfl ?_
      refine v_aload_n (pc' := 43) hc_X3_meanShade dX3_meanShade_42 rfl rfl 0 rfl ?_
      refine v_iload_n (pc' := 44) hc_X3_meanShade dX3_meanShade_43 rfl rfl 2 rfl ?_
      refine v_iconst (pc' := 45) (v := 3) hc_X3_meanShade dX3_meanShade_44 rfl rfl ?_
      obtain ⟨c6, e⟩ := gd_of e
      obtain ⟨r7, h8, e9, e⟩ := bd2_of e
      refine k_V (pc' := 48) (ci := 2) (n := 2) hc_X3_meanShade ho_X3_meanShade rfl c6 (w_X3_rollRow D l hl x0 x2 (3 : Int32) h e9) (wA_l q2419) q2421 (wA_l qs40) q85 q2422 hy_165 ⟨Nat.le_of_ble_eq_true rfl, Nat.le_of_ble_eq_true rfl⟩ rfl rfl (Nat.le_of_ble_eq_true rfl) dX3_meanShade_45 rfl (kS ?_) kN
      refine v_iadd (pc' := 49) hc_X3_meanShade dX3_meanShade_48 rfl ?_
      refine v_istore_n (pc' := 50) (lv' := [(1, .int (x1 + r7)), (0, .ref x0), (2, .int x2)]) hc_X3_meanShade dX3_meanShade_49 rfl rfl (Nat.le_of_ble_eq_true rfl) rfl ?_
      refine v_iinc (pc' := 53) (lv' := [(2, .int (x2 + 1)), (1, .int (x1 + r7)), (0, .ref x0)]) (v := x2 + 1) hc_X3_meanShade dX3_meanShade_50 rfl 2 rfl rfl (Nat.le_of_ble_eq_true rfl) rfl ?_
      refine v_goto (pt := 31) hc_X3_meanShade dX3_meanShade_53 rfl ?_
      refine v_pick [2, 1, 0] rfl ?_
      exact IH x0 (x1 + r7) (x2 + 1) h8 e
def f_X3_meanShade_j15 (x0 : Nat) (s0 : Nat) (s1 : Int32) (h : AH) : Option (UInt64 × AH) :=
  bd (stF h 2 s0 0 (.int s1)) fun h1 =>
  bd (gtI h1 2 x0 0) fun v2 =>
  if v2 ≤ 0 then (
    f_X3_meanShade_l31 NN x0 (0 : Int32) (0 : Int32) h1
  ) else (
    some ((0 : UInt64), h1)
  )
theorem w_X3_meanShade_j15 (D : va_G) (l : Launch) (hl : l.stackTraces = false) (as : List Value) (h0 : AH) {r : UInt64} {hF : AH} (x0 : Nat) (s0 : Nat) (s1 : Int32) (h : AH) (e : f_X3_meanShade_j15 x0 s0 s1 h = some (r, hF)) : V (G_X3_meanShade D l as h0 hF (oD r)) h 15 [(0, .ref x0)] [.int s1, .ref s0] := by
  unfold f_X3_meanShade_j15 at e
  refine v_pf (pc' := 18) hc_X3_meanShade ho_X3_meanShade KX3 0 (Nat.le_of_ble_eq_true rfl) q2242 (Or.inl rfl) rfl dX3_meanShade_15 rfl rfl rfl e (fun h1 _ e => ?_)
  refine v_aload_n (pc' := 19) hc_X3_meanShade dX3_meanShade_18 rfl rfl 0 rfl ?_
  refine v_gfI (pc' := 22) hc_X3_meanShade ho_X3_meanShade KX3 0 (Nat.le_of_ble_eq_true rfl) q2242 (Or.inl rfl) dX3_meanShade_19 rfl e (fun v2 _ e => ?_)
  refine v_if_le (pt := 27) (pf := 25) hc_X3_meanShade dX3_meanShade_22 rfl rfl e (fun _ e => ?_) (fun _ e => ?_)
  · refine v_iconst (pc' := 28) (v := 0) hc_X3_meanShade dX3_meanShade_27 rfl rfl ?_
    refine v_istore_n (pc' := 29) (lv' := [(1, .int (0 : Int32)), (0, .ref x0)]) hc_X3_meanShade dX3_meanShade_28 rfl rfl (Nat.le_of_ble_eq_true rfl) rfl ?_
    refine v_iconst (pc' := 30) (v := 0) hc_X3_meanShade dX3_meanShade_29 rfl rfl ?_
    refine v_istore_n (pc' := 31) (lv' := [(2, .int (0 : Int32)), (1, .int (0 : Int32)), (0, .ref x0)]) hc_X3_meanShade dX3_meanShade_30 rfl rfl (Nat.le_of_ble_eq_true rfl) rfl ?_
    refine v_pick [2, 1, 0] rfl ?_
    exact w_X3_meanShade_l31 D l hl as h0 NN x0 (0 : Int32) (0 : Int32) h1 e
  · refine v_dconst0 (pc' := 26) hc_X3_meanShade dX3_meanShade_25 rfl ?_
    obtain ⟨rfl, rfl⟩ := ret_of e
    exact v_dret hc_X3_meanShade rfl dX3_meanShade_26 rfl rfl
def f_X3_meanShade (x0 : Nat) (h : AH) : Option (UInt64 × AH) :=
  bd (gtR h 2 x0 1) fun v1 =>
  bd (ldI h 0 v1 (2 : Int32)) fun v2 =>
  if v2 = 0 then (
    f_X3_meanShade_j15 x0 x0 (1 : Int32) h
  ) else (
    f_X3_meanShade_j15 x0 x0 (0 : Int32) h
  )
theorem v_X3_meanShade (D : va_G) (l : Launch) (hl : l.stackTraces = false) (as : List Value) (h0 : AH) {r : UInt64} {hF : AH} (x0 : Nat) (h : AH) (e : f_X3_meanShade x0 h = some (r, hF)) : V (G_X3_meanShade D l as h0 hF (oD r)) h 0 [(0, .ref x0)] [] := by
  unfold f_X3_meanShade at e
  refine v_aload_n (pc' := 1) hc_X3_meanShade dX3_meanShade_0 rfl rfl 0 rfl ?_
  refine v_aload_n (pc' := 2) hc_X3_meanShade dX3_meanShade_1 rfl rfl 0 rfl ?_
  refine v_gfR (pc' := 5) hc_X3_meanShade ho_X3_meanShade KX3 1 (Nat.le_of_ble_eq_true rfl) q2243 (Or.inl rfl) dX3_meanShade_2 rfl e (fun v1 _ e => ?_)
  refine v_iconst (pc' := 6) (v := 2) hc_X3_meanShade dX3_meanShade_5 rfl rfl ?_
  refine v_iald (pc' := 7) hc_X3_meanShade dX3_meanShade_6 rfl e (fun v2 _ e => ?_)
  refine v_if_ne (pt := 14) (pf := 10) hc_X3_meanShade dX3_meanShade_7 rfl rfl e (fun _ e => ?_) (fun _ e => ?_)
  · refine v_iconst (pc' := 11) (v := 1) hc_X3_meanShade dX3_meanShade_10 rfl rfl ?_
    refine v_goto (pt := 15) hc_X3_meanShade dX3_meanShade_11 rfl ?_
    exact w_X3_meanShade_j15 D l hl as h0 x0 x0 (1 : Int32) h e
  · refine v_iconst (pc' := 15) (v := 0) hc_X3_meanShade dX3_meanShade_14 rfl rfl ?_
    exact w_X3_meanShade_j15 D l hl as h0 x0 x0 (0 : Int32) h e
theorem w_X3_meanShade (D : va_G) (l : Launch) (hl : l.stackTraces = false) (x0 : Nat) (h : AH) {r : UInt64} {hF : AH} (e : f_X3_meanShade x0 h = some (r, hF)) : MetV D l yX3_meanShade (Cond.code yX3_meanShade cX3_meanShade 3 (Option.some .double)) 2 70 [.ref x0] h hF (oD r) :=
  met_ofF (by decide +kernel) hl (Nat.le_of_ble_eq_true rfl) rfl (v_X3_meanShade D l hl [.ref x0] h x0 h e)
/-! BlockPapersModel.used()I  -/
abbrev G_X3_used (D : va_G) (l : Launch) (as : List Value) (h0 hF : AH) (o : Out) : CT := (D, l, (yX3_used.cls, yX3_used, cX3_used, 3, (Option.some .int), 2, 70, []), as, h0, hF, o)
theorem hc_X3_used {D : va_G} {l : Launch} {as : List Value} {h0 hF : AH} {o : Out} : gC (G_X3_used D l as h0 hF o) = cX3_used := rfl
theorem ho_X3_used {D : va_G} {l : Launch} {as : List Value} {h0 hF : AH} {o : Out} : gO (G_X3_used D l as h0 hF o) = "BlockPapersModel" := rfl
theorem hp_X3_used {D : va_G} {l : Launch} {as : List Value} {h0 hF : AH} {o : Out} (pc : Nat) : ∀ z ∈ tableOf (gHd (G_X3_used D l as h0 hF o)), covers z pc = false := hpN
def fb_X3_used_l4 (rec : Nat → Int32 → Int32 → AH → Option (Int32 × AH)) (x0 : Nat) (x1 : Int32) (x2 : Int32) (h : AH) : Option (Int32 × AH) :=
  bd (gtR h 2 x0 1) fun v1 =>
  bd (ldI h 0 v1 (2 : Int32)) fun v2 =>
  if v2 ≤ x2 then (
    some (x1, h)
  ) else (
    gd (isC h 2 x0) <|
    bd2 (f_X3_rollRow x0 x2 (4 : Int32) h) fun r4 h5 =>
    rec x0 (x1 + r4) (x2 + 1) h5
  )
def f_X3_used_l4 : Nat → Nat → Int32 → Int32 → AH → Option (Int32 × AH)
  | 0 => fun _ _ _ _ => none
  | n + 1 => fb_X3_used_l4 (f_X3_used_l4 n) 
theorem w_X3_used_l4 (D : va_G) (l : Launch) (hl : l.stackTraces = false) (as : List Value) (h0 : AH) {r : Int32} {hF : AH} : ∀ (n : Nat) (x0 : Nat) (x1 : Int32) (x2 : Int32) (h : AH), f_X3_used_l4 n x0 x1 x2 h = some (r, hF) → V (G_X3_used D l as h0 hF (oI r)) h 4 [(0, .ref x0), (1, .int x1), (2, .int x2)] [] := by
  intro n; induction n with
  | zero => intro x0 x1 x2 h e; exact absurd (show (none : Option (Int32 × AH)) = some _ from e) (fun z => nomatch z)
  | succ n IH =>
    intro x0 x1 x2 h e
    have e : fb_X3_used_l4 (f_X3_used_l4 n) x0 x1 x2 h = some (r, hF) := e
    unfold fb_X3_used_l4 at e
    refine v_iload_n (pc' := 5) hc_X3_used dX3_used_4 rfl rfl 2 rfl ?_
    refine v_aload_n (pc' := 6) hc_X3_used dX3_used_5 rfl rfl 0 rfl ?_
    refine v_gfR (pc' := 9) hc_X3_used ho_X3_used KX3 1 (Nat.le_of_ble_eq_true rfl) q2243 (Or.inl rfl) dX3_used_6 rfl e (fun v1 _ e => ?_)
    refine v_iconst (pc' := 10) (v := 2) hc_X3_used dX3_used_9 rfl rfl ?_
    refine v_iald (pc' := 11) hc_X3_used dX3_used_10 rfl e (fun v2 _ e => ?_)
    refine v_icmp_ge (pt := 29) (pf := 14) hc_X3_used dX3_used_11 rfl rfl e (fun _ e => ?_) (fun _ e => ?_)
    · refine v_iload_n (pc' := 30) hc_X3_used dX3_used_29 rfl rfl 1 rfl ?_
      obtain ⟨rfl, rfl⟩ := ret_of e
      exact v_iret hc_X3_used rfl dX3_used_30 rfl rfl
    · refine v_iload_n (pc' := 15) hc_X3_used dX3_used_14 rfl rfl 1 rfl ?_
      refine v_aload_n (pc' := 16) hc_X3_used dX3_used_15 rfl rfl 0 rfl ?_
      refine v_iload_n (pc' := 17) hc_X3_used dX3_used_16 rfl rfl 2 rfl ?_
      refine v_iconst (pc' := 18) (v := 4) hc_X3_used dX3_used_17 rfl rfl ?_
      obtain ⟨c3, e⟩ := gd_of e
      obtain ⟨r4, h5, e6, e⟩ := bd2_of e
      refine k_V (pc' := 21) (ci := 2) (n := 2) hc_X3_used ho_X3_used rfl c3 (w_X3_rollRow D l hl x0 x2 (4 : Int32) h e6) (wA_l q2419) q2421 (wA_l qs40) q85 q2422 hy_165 ⟨Nat.le_of_ble_eq_true rfl, Nat.le_of_ble_eq_true rfl⟩ rfl rfl (Nat.le_of_ble_eq_true rfl) dX3_used_18 rfl (kS ?_) kN
      refine v_iadd (pc' := 22) hc_X3_used dX3_used_21 rfl ?_
      refine v_istore_n (pc' := 23) (lv' := [(1, .int (x1 + r4)), (0, .ref x0), (2, .int x2)]) hc_X3_used dX3_used_22 rfl rfl (Nat.le_of_ble_eq_true rfl) rfl ?_
      refine v_iinc (pc' := 26) (lv' := [(2, .int (x2 + 1)), (1, .int (x1 + r4)), (0, .ref x0)]) (v := x2 + 1) hc_X3_used dX3_used_23 rfl 2 rfl rfl (Nat.le_of_ble_eq_true rfl) rfl ?_
      refine v_goto (pt := 4) hc_X3_used dX3_used_26 rfl ?_
      refine v_pick [2, 1, 0] rfl ?_
      exact IH x0 (x1 + r4) (x2 + 1) h5 e
def f_X3_used (x0 : Nat) (h : AH) : Option (Int32 × AH) :=
  f_X3_used_l4 NN x0 (0 : Int32) (0 : Int32) h
theorem v_X3_used (D : va_G) (l : Launch) (hl : l.stackTraces = false) (as : List Value) (h0 : AH) {r : Int32} {hF : AH} (x0 : Nat) (h : AH) (e : f_X3_used x0 h = some (r, hF)) : V (G_X3_used D l as h0 hF (oI r)) h 0 [(0, .ref x0)] [] := by
  unfold f_X3_used at e
  refine v_iconst (pc' := 1) (v := 0) hc_X3_used dX3_used_0 rfl rfl ?_
  refine v_istore_n (pc' := 2) (lv' := [(1, .int (0 : Int32)), (0, .ref x0)]) hc_X3_used dX3_used_1 rfl rfl (Nat.le_of_ble_eq_true rfl) rfl ?_
  refine v_iconst (pc' := 3) (v := 0) hc_X3_used dX3_used_2 rfl rfl ?_
  refine v_istore_n (pc' := 4) (lv' := [(2, .int (0 : Int32)), (1, .int (0 : Int32)), (0, .ref x0)]) hc_X3_used dX3_used_3 rfl rfl (Nat.le_of_ble_eq_true rfl) rfl ?_
  refine v_pick [2, 1, 0] rfl ?_
  exact w_X3_used_l4 D l hl as h0 NN x0 (0 : Int32) (0 : Int32) h e
theorem w_X3_used (D : va_G) (l : Launch) (hl : l.stackTraces = false) (x0 : Nat) (h : AH) {r : Int32} {hF : AH} (e : f_X3_used x0 h = some (r, hF)) : MetV D l yX3_used (Cond.code yX3_used cX3_used 3 (Option.some .int)) 2 70 [.ref x0] h hF (oI r) :=
  met_ofF (by decide +kernel) hl (Nat.le_of_ble_eq_true rfl) rfl (v_X3_used D l hl [.ref x0] h x0 h e)
/-! BlockPapersModel.wasted()F  -/
abbrev G_X3_wasted (D : va_G) (l : Launch) (as : List Value) (h0 hF : AH) (o : Out) : CT := (D, l, (yX3_wasted.cls, yX3_wasted, cX3_wasted, 1, (Option.some .float), 3, 92, []), as, h0, hF, o)
theorem hc_X3_wasted {D : va_G} {l : Launch} {as : List Value} {h0 hF : AH} {o : Out} : gC (G_X3_wasted D l as h0 hF o) = cX3_wasted := rfl
theorem ho_X3_wasted {D : va_G} {l : Launch} {as : List Value} {h0 hF : AH} {o : Out} : gO (G_X3_wasted D l as h0 hF o) = "BlockPapersModel" := rfl
theorem hp_X3_wasted {D : va_G} {l : Launch} {as : List Value} {h0 hF : AH} {o : Out} (pc : Nat) : ∀ z ∈ tableOf (gHd (G_X3_wasted D l as h0 hF o)), covers z pc = false := hpN
def f_X3_wasted_j13 (x0 : Nat) (s0 : Nat) (s1 : Int32) (h : AH) : Option (UInt32 × AH) :=
  bd (stF h 2 s0 0 (.int s1)) fun h1 =>
  bd (gtI h1 2 x0 0) fun v2 =>
  if v2 ≤ 0 then (
    bd (gtR h1 2 x0 1) fun v3 =>
    bd (ldI h1 0 v3 (5 : Int32)) fun v4 =>
    gd (isC h1 2 x0) <|
    bd2 (f_X3_used x0 h1) fun r6 h7 =>
    gd (decide ((FP.fdiv (FP.i2f v4) (FP.i2f r6)) &&& 0x7fffffff ≤ 0x7f800000)) <|
    some ((FP.fdiv (FP.i2f v4) (FP.i2f r6)), h7)
  ) else (
    some ((0 : UInt32), h1)
  )
theorem w_X3_wasted_j13 (D : va_G) (l : Launch) (hl : l.stackTraces = false) (as : List Value) (h0 : AH) {r : UInt32} {hF : AH} (x0 : Nat) (s0 : Nat) (s1 : Int32) (h : AH) (e : f_X3_wasted_j13 x0 s0 s1 h = some (r, hF)) : V (G_X3_wasted D l as h0 hF (oF r)) h 13 [(0, .ref x0)] [.int s1, .ref s0] := by
  unfold f_X3_wasted_j13 at e
  refine v_pf (pc' := 16) hc_X3_wasted ho_X3_wasted KX3 0 (Nat.le_of_ble_eq_true rfl) q2242 (Or.inl rfl) rfl dX3_wasted_13 rfl rfl rfl e (fun h1 _ e => ?_)
  refine v_aload_n (pc' := 17) hc_X3_wasted dX3_wasted_16 rfl rfl 0 rfl ?_
  refine v_gfI (pc' := 20) hc_X3_wasted ho_X3_wasted KX3 0 (Nat.le_of_ble_eq_true rfl) q2242 (Or.inl rfl) dX3_wasted_17 rfl e (fun v2 _ e => ?_)
  refine v_if_le (pt := 27) (pf := 23) hc_X3_wasted dX3_wasted_20 rfl rfl e (fun _ e => ?_) (fun _ e => ?_)
  · refine v_aload_n (pc' := 28) hc_X3_wasted dX3_wasted_27 rfl rfl 0 rfl ?_
    refine v_gfR (pc' := 31) hc_X3_wasted ho_X3_wasted KX3 1 (Nat.le_of_ble_eq_true rfl) q2243 (Or.inl rfl) dX3_wasted_28 rfl e (fun v3 _ e => ?_)
    refine v_iconst (pc' := 32) (v := 5) hc_X3_wasted dX3_wasted_31 rfl rfl ?_
    refine v_iald (pc' := 33) hc_X3_wasted dX3_wasted_32 rfl e (fun v4 _ e => ?_)
    refine v_i2f (pc' := 34) hc_X3_wasted dX3_wasted_33 rfl ?_
    refine v_aload_n (pc' := 35) hc_X3_wasted dX3_wasted_34 rfl rfl 0 rfl ?_
    obtain ⟨c5, e⟩ := gd_of e
    obtain ⟨r6, h7, e8, e⟩ := bd2_of e
    refine k_V (pc' := 38) (ci := 2) (n := 0) hc_X3_wasted ho_X3_wasted rfl c5 (w_X3_used D l hl x0 h1 e8) (wA_l q2611) q2613 (wA_l qs67) q85 q2614 hy_290 ⟨Nat.le_of_ble_eq_true rfl, Nat.le_of_ble_eq_true rfl⟩ rfl rfl (Nat.le_of_ble_eq_true rfl) dX3_wasted_35 rfl (kS ?_) kN
    refine v_i2f (pc' := 39) hc_X3_wasted dX3_wasted_38 rfl ?_
    obtain ⟨c9, e⟩ := gd_of e
    refine v_fdiv (pc' := 40) hc_X3_wasted dX3_wasted_39 rfl (vf32_of c9) ?_
    obtain ⟨rfl, rfl⟩ := ret_of e
    exact v_fret hc_X3_wasted rfl dX3_wasted_40 rfl rfl
  · refine v_fconst0 (pc' := 24) hc_X3_wasted dX3_wasted_23 rfl ?_
    refine v_goto (pt := 40) hc_X3_wasted dX3_wasted_24 rfl ?_
    obtain ⟨rfl, rfl⟩ := ret_of e
    exact v_fret hc_X3_wasted rfl dX3_wasted_40 rfl rfl
def f_X3_wasted (x0 : Nat) (h : AH) : Option (UInt32 × AH) :=
  gd (isC h 2 x0) <|
  bd2 (f_X3_used x0 h) fun r2 h3 =>
  if r2 = 0 then (
    f_X3_wasted_j13 x0 x0 (1 : Int32) h3
  ) else (
    f_X3_wasted_j13 x0 x0 (0 : Int32) h3
  )
theorem v_X3_wasted (D : va_G) (l : Launch) (hl : l.stackTraces = false) (as : List Value) (h0 : AH) {r : UInt32} {hF : AH} (x0 : Nat) (h : AH) (e : f_X3_wasted x0 h = some (r, hF)) : V (G_X3_wasted D l as h0 hF (oF r)) h 0 [(0, .ref x0)] [] := by
  unfold f_X3_wasted at e
  refine v_aload_n (pc' := 1) hc_X3_wasted dX3_wasted_0 rfl rfl 0 rfl ?_
  refine v_aload_n (pc' := 2) hc_X3_wasted dX3_wasted_1 rfl rfl 0 rfl ?_
  obtain ⟨c1, e⟩ := gd_of e
  obtain ⟨r2, h3, e4, e⟩ := bd2_of e
  refine k_V (pc' := 5) (ci := 2) (n := 0) hc_X3_wasted ho_X3_wasted rfl c1 (w_X3_used D l hl x0 h e4) (wA_l q2611) q2613 (wA_l qs67) q85 q2614 hy_290 ⟨Nat.le_of_ble_eq_true rfl, Nat.le_of_ble_eq_true rfl⟩ rfl rfl (Nat.le_of_ble_eq_true rfl) dX3_wasted_2 rfl (kS ?_) kN
  refine v_if_ne (pt := 12) (pf := 8) hc_X3_wasted dX3_wasted_5 rfl rfl e (fun _ e => ?_) (fun _ e => ?_)
  · refine v_iconst (pc' := 9) (v := 1) hc_X3_wasted dX3_wasted_8 rfl rfl ?_
    refine v_goto (pt := 13) hc_X3_wasted dX3_wasted_9 rfl ?_
    exact w_X3_wasted_j13 D l hl as h0 x0 x0 (1 : Int32) h3 e
  · refine v_iconst (pc' := 13) (v := 0) hc_X3_wasted dX3_wasted_12 rfl rfl ?_
    exact w_X3_wasted_j13 D l hl as h0 x0 x0 (0 : Int32) h3 e
theorem w_X3_wasted (D : va_G) (l : Launch) (hl : l.stackTraces = false) (x0 : Nat) (h : AH) {r : UInt32} {hF : AH} (e : f_X3_wasted x0 h = some (r, hF)) : MetV D l yX3_wasted (Cond.code yX3_wasted cX3_wasted 1 (Option.some .float)) 3 92 [.ref x0] h hF (oF r) :=
  met_ofF (by decide +kernel) hl (Nat.le_of_ble_eq_true rfl) rfl (v_X3_wasted D l hl [.ref x0] h x0 h e)
/-! BlockPapersModel.feed(C)I  -/
abbrev G_X3_feed (D : va_G) (l : Launch) (as : List Value) (h0 hF : AH) (o : Out) : CT := (D, l, (yX3_feed.cls, yX3_feed, cX3_feed, 2, (Option.some .int), 2, 69, []), as, h0, hF, o)
theorem hc_X3_feed {D : va_G} {l : Launch} {as : List Value} {h0 hF : AH} {o : Out} : gC (G_X3_feed D l as h0 hF o) = cX3_feed := rfl
theorem ho_X3_feed {D : va_G} {l : Launch} {as : List Value} {h0 hF : AH} {o : Out} : gO (G_X3_feed D l as h0 hF o) = "BlockPapersModel" := rfl
theorem hp_X3_feed {D : va_G} {l : Launch} {as : List Value} {h0 hF : AH} {o : Out} (pc : Nat) : ∀ z ∈ tableOf (gHd (G_X3_feed D l as h0 hF o)), covers z pc = false := hpN
def f_X3_feed (x0 : Nat) (x1 : Int32) (h : AH) : Option (Int32 × AH) :=
  bd (stF h 2 x0 0 (.int (0 : Int32))) fun h1 =>
  bd (gtI h1 2 x0 11) fun v2 =>
  if v2 = (60 : Int32) then (
    gd (isC h1 2 x0) <|
    bd2 (f_X3_fails x0 (1 : Int32) h1) fun r4 h5 =>
    some (r4, h5)
  ) else (
    bd (gtR h1 2 x0 8) fun v7 =>
    bd (gtI h1 2 x0 11) fun v8 =>
    bd (stI h1 v7 v8 x1) fun h9 =>
    bd (gtI h9 2 x0 11) fun v10 =>
    bd (stF h9 2 x0 11 (.int (v10 + (1 : Int32)))) fun h11 =>
    bd (gtI h11 2 x0 11) fun v12 =>
    some (v12, h11)
  )
theorem v_X3_feed (D : va_G) (l : Launch) (hl : l.stackTraces = false) (as : List Value) (h0 : AH) {r : Int32} {hF : AH} (x0 : Nat) (x1 : Int32) (h : AH) (e : f_X3_feed x0 x1 h = some (r, hF)) : V (G_X3_feed D l as h0 hF (oI r)) h 0 [(0, .ref x0), (1, .int x1)] [] := by
  unfold f_X3_feed at e
  refine v_aload_n (pc' := 1) hc_X3_feed dX3_feed_0 rfl rfl 0 rfl ?_
  refine v_iconst (pc' := 2) (v := 0) hc_X3_feed dX3_feed_1 rfl rfl ?_
  refine v_pf (pc' := 5) hc_X3_feed ho_X3_feed KX3 0 (Nat.le_of_ble_eq_true rfl) q2242 (Or.inl rfl) rfl dX3_feed_2 rfl rfl rfl e (fun h1 _ e => ?_)
  refine v_aload_n (pc' := 6) hc_X3_feed dX3_feed_5 rfl rfl 0 rfl ?_
  refine v_gfI (pc' := 9) hc_X3_feed ho_X3_feed KX3 11 (Nat.le_of_ble_eq_true rfl) q2253 (Or.inl rfl) dX3_feed_6 rfl e (fun v2 _ e => ?_)
  refine v_bipush (pc' := 11) (v := 60) hc_X3_feed dX3_feed_9 rfl rfl ?_
  refine v_icmp_ne (pt := 20) (pf := 14) hc_X3_feed dX3_feed_11 rfl rfl e (fun _ e => ?_) (fun _ e => ?_)
  · refine v_aload_n (pc' := 15) hc_X3_feed dX3_feed_14 rfl rfl 0 rfl ?_
    refine v_iconst (pc' := 16) (v := 1) hc_X3_feed dX3_feed_15 rfl rfl ?_
    obtain ⟨c3, e⟩ := gd_of e
    obtain ⟨r4, h5, e6, e⟩ := bd2_of e
    refine k_V (pc' := 19) (ci := 2) (n := 1) hc_X3_feed ho_X3_feed rfl c3 (w_X3_fails D l hl x0 (1 : Int32) h1 e6) (wA_l q2351) q2353 (wA_l qs30) q85 q2354 hy_119 ⟨Nat.le_of_ble_eq_true rfl, Nat.le_of_ble_eq_true rfl⟩ rfl rfl (Nat.le_of_ble_eq_true rfl) dX3_feed_16 rfl (kS ?_) kN
    obtain ⟨rfl, rfl⟩ := ret_of e
    exact v_iret hc_X3_feed rfl dX3_feed_19 rfl rfl
  · refine v_aload_n (pc' := 21) hc_X3_feed dX3_feed_20 rfl rfl 0 rfl ?_
    refine v_gfR (pc' := 24) hc_X3_feed ho_X3_feed KX3 8 (Nat.le_of_ble_eq_true rfl) q2250 (Or.inl rfl) dX3_feed_21 rfl e (fun v7 _ e => ?_)
    refine v_aload_n (pc' := 25) hc_X3_feed dX3_feed_24 rfl rfl 0 rfl ?_
    refine v_gfI (pc' := 28) hc_X3_feed ho_X3_feed KX3 11 (Nat.le_of_ble_eq_true rfl) q2253 (Or.inl rfl) dX3_feed_25 rfl e (fun v8 _ e => ?_)
    refine v_iload_n (pc' := 29) hc_X3_feed dX3_feed_28 rfl rfl 1 rfl ?_
    refine v_iast (pc' := 30) hc_X3_feed dX3_feed_29 rfl e (fun h9 _ e => ?_)
    refine v_aload_n (pc' := 31) hc_X3_feed dX3_feed_30 rfl rfl 0 rfl ?_
    refine v_dup (pc' := 32) hc_X3_feed dX3_feed_31 rfl rfl ?_
    refine v_gfI (pc' := 35) hc_X3_feed ho_X3_feed KX3 11 (Nat.le_of_ble_eq_true rfl) q2253 (Or.inl rfl) dX3_feed_32 rfl e (fun v10 _ e => ?_)
    refine v_iconst (pc' := 36) (v := 1) hc_X3_feed dX3_feed_35 rfl rfl ?_
    refine v_iadd (pc' := 37) hc_X3_feed dX3_feed_36 rfl ?_
    refine v_pf (pc' := 40) hc_X3_feed ho_X3_feed KX3 11 (Nat.le_of_ble_eq_true rfl) q2253 (Or.inl rfl) rfl dX3_feed_37 rfl rfl rfl e (fun h11 _ e => ?_)
    refine v_aload_n (pc' := 41) hc_X3_feed dX3_feed_40 rfl rfl 0 rfl ?_
    refine v_gfI (pc' := 44) hc_X3_feed ho_X3_feed KX3 11 (Nat.le_of_ble_eq_true rfl) q2253 (Or.inl rfl) dX3_feed_41 rfl e (fun v12 _ e => ?_)
    obtain ⟨rfl, rfl⟩ := ret_of e
    exact v_iret hc_X3_feed rfl dX3_feed_44 rfl rfl
theorem w_X3_feed (D : va_G) (l : Launch) (hl : l.stackTraces = false) (x0 : Nat) (x1 : Int32) (h : AH) {r : Int32} {hF : AH} (e : f_X3_feed x0 x1 h = some (r, hF)) : MetV D l yX3_feed (Cond.code yX3_feed cX3_feed 2 (Option.some .int)) 2 69 [.ref x0, .int x1] h hF (oI r) :=
  met_ofF (by decide +kernel) hl (Nat.le_of_ble_eq_true rfl) rfl (v_X3_feed D l hl [.ref x0, .int x1] h x0 x1 h e)
/-! BlockPapersModel.here()I  -/
abbrev G_X3_here (D : va_G) (l : Launch) (as : List Value) (h0 hF : AH) (o : Out) : CT := (D, l, (yX3_here.cls, yX3_here, cX3_here, 1, (Option.some .int), 1, 48, []), as, h0, hF, o)
theorem hc_X3_here {D : va_G} {l : Launch} {as : List Value} {h0 hF : AH} {o : Out} : gC (G_X3_here D l as h0 hF o) = cX3_here := rfl
theorem ho_X3_here {D : va_G} {l : Launch} {as : List Value} {h0 hF : AH} {o : Out} : gO (G_X3_here D l as h0 hF o) = "BlockPapersModel" := rfl
theorem hp_X3_here {D : va_G} {l : Launch} {as : List Value} {h0 hF : AH} {o : Out} (pc : Nat) : ∀ z ∈ tableOf (gHd (G_X3_here D l as h0 hF o)), covers z pc = false := hpN
def f_X3_here (x0 : Nat) (h : AH) : Option (Int32 × AH) :=
  bd (gtI h 2 x0 20) fun v1 =>
  bd (gtI h 2 x0 21) fun v2 =>
  if v2 ≤ v1 then (
    some ((-1 : Int32), h)
  ) else (
    bd (gtR h 2 x0 8) fun v3 =>
    bd (gtI h 2 x0 20) fun v4 =>
    bd (ldI h 0 v3 v4) fun v5 =>
    some (v5, h)
  )
theorem v_X3_here (D : va_G) (l : Launch) (hl : l.stackTraces = false) (as : List Value) (h0 : AH) {r : Int32} {hF : AH} (x0 : Nat) (h : AH) (e : f_X3_here x0 h = some (r, hF)) : V (G_X3_here D l as h0 hF (oI r)) h 0 [(0, .ref x0)] [] := by
  unfold f_X3_here at e
  refine v_aload_n (pc' := 1) hc_X3_here dX3_here_0 rfl rfl 0 rfl ?_
  refine v_gfI (pc' := 4) hc_X3_here ho_X3_here KX3 20 (Nat.le_of_ble_eq_true rfl) q2262 (Or.inl rfl) dX3_here_1 rfl e (fun v1 _ e => ?_)
  refine v_aload_n (pc' := 5) hc_X3_here dX3_here_4 rfl rfl 0 rfl ?_
  refine v_gfI (pc' := 8) hc_X3_here ho_X3_here KX3 21 (Nat.le_of_ble_eq_true rfl) q2263 (Or.inl rfl) dX3_here_5 rfl e (fun v2 _ e => ?_)
  refine v_icmp_ge (pt := 23) (pf := 11) hc_X3_here dX3_here_8 rfl rfl e (fun _ e => ?_) (fun _ e => ?_)
  · refine v_iconst (pc' := 24) (v := (-1)) hc_X3_here dX3_here_23 rfl rfl ?_
    obtain ⟨rfl, rfl⟩ := ret_of e
    exact v_iret hc_X3_here rfl dX3_here_24 rfl rfl
  · refine v_aload_n (pc' := 12) hc_X3_here dX3_here_11 rfl rfl 0 rfl ?_
    refine v_gfR (pc' := 15) hc_X3_here ho_X3_here KX3 8 (Nat.le_of_ble_eq_true rfl) q2250 (Or.inl rfl) dX3_here_12 rfl e (fun v3 _ e => ?_)
    refine v_aload_n (pc' := 16) hc_X3_here dX3_here_15 rfl rfl 0 rfl ?_
    refine v_gfI (pc' := 19) hc_X3_here ho_X3_here KX3 20 (Nat.le_of_ble_eq_true rfl) q2262 (Or.inl rfl) dX3_here_16 rfl e (fun v4 _ e => ?_)
    refine v_iald (pc' := 20) hc_X3_here dX3_here_19 rfl e (fun v5 _ e => ?_)
    refine v_goto (pt := 24) hc_X3_here dX3_here_20 rfl ?_
    obtain ⟨rfl, rfl⟩ := ret_of e
    exact v_iret hc_X3_here rfl dX3_here_24 rfl rfl
theorem w_X3_here (D : va_G) (l : Launch) (hl : l.stackTraces = false) (x0 : Nat) (h : AH) {r : Int32} {hF : AH} (e : f_X3_here x0 h = some (r, hF)) : MetV D l yX3_here (Cond.code yX3_here cX3_here 1 (Option.some .int)) 1 48 [.ref x0] h hF (oI r) :=
  met_ofF (by decide +kernel) hl (Nat.le_of_ble_eq_true rfl) rfl (v_X3_here D l hl [.ref x0] h x0 h e)
/-! BlockPapersModel.must(I)V  -/
abbrev G_X3_must (D : va_G) (l : Launch) (as : List Value) (h0 hF : AH) (o : Out) : CT := (D, l, (yX3_must.cls, yX3_must, cX3_must, 2, (Option.none : Option FieldType), 2, 68, []), as, h0, hF, o)
theorem hc_X3_must {D : va_G} {l : Launch} {as : List Value} {h0 hF : AH} {o : Out} : gC (G_X3_must D l as h0 hF o) = cX3_must := rfl
theorem ho_X3_must {D : va_G} {l : Launch} {as : List Value} {h0 hF : AH} {o : Out} : gO (G_X3_must D l as h0 hF o) = "BlockPapersModel" := rfl
theorem hp_X3_must {D : va_G} {l : Launch} {as : List Value} {h0 hF : AH} {o : Out} (pc : Nat) : ∀ z ∈ tableOf (gHd (G_X3_must D l as h0 hF o)), covers z pc = false := hpN
def f_X3_must_j21 (x0 : Nat) (s0 : Nat) (s1 : Int32) (h : AH) : Option (Unit × AH) :=
  gd (nrw .boolean s1) <|
  bd (stF h 2 s0 23 (.int s1)) fun h2 =>
  bd (gtI h2 2 x0 20) fun v3 =>
  bd (gtI h2 2 x0 23) fun v4 =>
  if v4 = 0 then (
    bd (stF h2 2 x0 20 (.int (v3 + (1 : Int32)))) fun h5 =>
    some ((), h5)
  ) else (
    bd (stF h2 2 x0 20 (.int (v3 + (0 : Int32)))) fun h6 =>
    some ((), h6)
  )
theorem w_X3_must_j21 (D : va_G) (l : Launch) (hl : l.stackTraces = false) (as : List Value) (h0 : AH) {r : Unit} {hF : AH} (x0 : Nat) (s0 : Nat) (s1 : Int32) (h : AH) (e : f_X3_must_j21 x0 s0 s1 h = some (r, hF)) : V (G_X3_must D l as h0 hF (oV r)) h 21 [(0, .ref x0)] [.int s1, .ref s0] := by
  unfold f_X3_must_j21 at e
  obtain ⟨c1, e⟩ := gd_of e
  refine v_pf (pc' := 24) hc_X3_must ho_X3_must KX3 23 (Nat.le_of_ble_eq_true rfl) q2265 (Or.inl rfl) rfl dX3_must_21 rfl (nrw_of c1) (fit_of c1) e (fun h2 _ e => ?_)
  refine v_aload_n (pc' := 25) hc_X3_must dX3_must_24 rfl rfl 0 rfl ?_
  refine v_dup (pc' := 26) hc_X3_must dX3_must_25 rfl rfl ?_
  refine v_gfI (pc' := 29) hc_X3_must ho_X3_must KX3 20 (Nat.le_of_ble_eq_true rfl) q2262 (Or.inl rfl) dX3_must_26 rfl e (fun v3 _ e => ?_)
  refine v_aload_n (pc' := 30) hc_X3_must dX3_must_29 rfl rfl 0 rfl ?_
  refine v_gfI (pc' := 33) hc_X3_must ho_X3_must KX3 23 (Nat.le_of_ble_eq_true rfl) q2265 (Or.inl rfl) dX3_must_30 rfl e (fun v4 _ e => ?_)
  refine v_if_eq (pt := 40) (pf := 36) hc_X3_must dX3_must_33 rfl rfl e (fun _ e => ?_) (fun _ e => ?_)
  · refine v_iconst (pc' := 41) (v := 1) hc_X3_must dX3_must_40 rfl rfl ?_
    refine v_iadd (pc' := 42) hc_X3_must dX3_must_41 rfl ?_
    refine v_pf (pc' := 45) hc_X3_must ho_X3_must KX3 20 (Nat.le_of_ble_eq_true rfl) q2262 (Or.inl rfl) rfl dX3_must_42 rfl rfl rfl e (fun h5 _ e => ?_)
    obtain ⟨rfl, rfl⟩ := ret_of e
    exact v_ret hc_X3_must rfl dX3_must_45 rfl rfl
  · refine v_iconst (pc' := 37) (v := 0) hc_X3_must dX3_must_36 rfl rfl ?_
    refine v_goto (pt := 41) hc_X3_must dX3_must_37 rfl ?_
    refine v_iadd (pc' := 42) hc_X3_must dX3_must_41 rfl ?_
    refine v_pf (pc' := 45) hc_X3_must ho_X3_must KX3 20 (Nat.le_of_ble_eq_true rfl) q2262 (Or.inl rfl) rfl dX3_must_42 rfl rfl rfl e (fun h6 _ e => ?_)
    obtain ⟨rfl, rfl⟩ := ret_of e
    exact v_ret hc_X3_must rfl dX3_must_45 rfl rfl
def f_X3_must (x0 : Nat) (x1 : Int32) (h : AH) : Option (Unit × AH) :=
  bd (gtI h 2 x0 23) fun v1 =>
  if v1 = 0 then (
    gd (isC h 2 x0) <|
    bd2 (f_X3_here x0 h) fun r3 h4 =>
    if r3 = x1 then (
      f_X3_must_j21 x0 x0 (0 : Int32) h4
    ) else (
      f_X3_must_j21 x0 x0 (1 : Int32) h4
    )
  ) else (
    f_X3_must_j21 x0 x0 (1 : Int32) h
  )
theorem v_X3_must (D : va_G) (l : Launch) (hl : l.stackTraces = false) (as : List Value) (h0 : AH) {r : Unit} {hF : AH} (x0 : Nat) (x1 : Int32) (h : AH) (e : f_X3_must x0 x1 h = some (r, hF)) : V (G_X3_must D l as h0 hF (oV r)) h 0 [(0, .ref x0), (1, .int x1)] [] := by
  unfold f_X3_must at e
  refine v_aload_n (pc' := 1) hc_X3_must dX3_must_0 rfl rfl 0 rfl ?_
  refine v_aload_n (pc' := 2) hc_X3_must dX3_must_1 rfl rfl 0 rfl ?_
  refine v_gfI (pc' := 5) hc_X3_must ho_X3_must KX3 23 (Nat.le_of_ble_eq_true rfl) q2265 (Or.inl rfl) dX3_must_2 rfl e (fun v1 _ e => ?_)
  refine v_if_ne (pt := 16) (pf := 8) hc_X3_must dX3_must_5 rfl rfl e (fun _ e => ?_) (fun _ e => ?_)
  · refine v_aload_n (pc' := 9) hc_X3_must dX3_must_8 rfl rfl 0 rfl ?_
    obtain ⟨c2, e⟩ := gd_of e
    obtain ⟨r3, h4, e5, e⟩ := bd2_of e
    refine k_V (pc' := 12) (ci := 2) (n := 0) hc_X3_must ho_X3_must rfl c2 (w_X3_here D l hl x0 h e5) (wA_l q2627) q2629 (wA_l qs69) q85 q2630 hy_329 ⟨Nat.le_of_ble_eq_true rfl, Nat.le_of_ble_eq_true rfl⟩ rfl rfl (Nat.le_of_ble_eq_true rfl) dX3_must_9 rfl (kS ?_) kN
    refine v_iload_n (pc' := 13) hc_X3_must dX3_must_12 rfl rfl 1 rfl ?_
    refine v_icmp_eq (pt := 20) (pf := 16) hc_X3_must dX3_must_13 rfl rfl e (fun _ e => ?_) (fun _ e => ?_)
    · refine v_iconst (pc' := 21) (v := 0) hc_X3_must dX3_must_20 rfl rfl ?_
      refine v_pick [0] rfl ?_
      exact w_X3_must_j21 D l hl as h0 x0 x0 (0 : Int32) h4 e
    · refine v_iconst (pc' := 17) (v := 1) hc_X3_must dX3_must_16 rfl rfl ?_
      refine v_goto (pt := 21) hc_X3_must dX3_must_17 rfl ?_
      refine v_pick [0] rfl ?_
      exact w_X3_must_j21 D l hl as h0 x0 x0 (1 : Int32) h4 e
  · refine v_iconst (pc' := 17) (v := 1) hc_X3_must dX3_must_16 rfl rfl ?_
    refine v_goto (pt := 21) hc_X3_must dX3_must_17 rfl ?_
    refine v_pick [0] rfl ?_
    exact w_X3_must_j21 D l hl as h0 x0 x0 (1 : Int32) h e
theorem w_X3_must (D : va_G) (l : Launch) (hl : l.stackTraces = false) (x0 : Nat) (x1 : Int32) (h : AH) {r : Unit} {hF : AH} (e : f_X3_must x0 x1 h = some (r, hF)) : MetV D l yX3_must (Cond.code yX3_must cX3_must 2 (Option.none : Option FieldType)) 2 68 [.ref x0, .int x1] h hF (oV r) :=
  met_ofF (by decide +kernel) hl (Nat.le_of_ble_eq_true rfl) rfl (v_X3_must D l hl [.ref x0, .int x1] h x0 x1 h e)
/-! BlockPapersModel.digitsOf(II)V  -/
abbrev G_X3_digitsOf (D : va_G) (l : Launch) (as : List Value) (h0 hF : AH) (o : Out) : CT := (D, l, (yX3_digitsOf.cls, yX3_digitsOf, cX3_digitsOf, 5, (Option.none : Option FieldType), 3, 89, []), as, h0, hF, o)
theorem hc_X3_digitsOf {D : va_G} {l : Launch} {as : List Value} {h0 hF : AH} {o : Out} : gC (G_X3_digitsOf D l as h0 hF o) = cX3_digitsOf := rfl
theorem ho_X3_digitsOf {D : va_G} {l : Launch} {as : List Value} {h0 hF : AH} {o : Out} : gO (G_X3_digitsOf D l as h0 hF o) = "BlockPapersModel" := rfl
theorem hp_X3_digitsOf {D : va_G} {l : Launch} {as : List Value} {h0 hF : AH} {o : Out} (pc : Nat) : ∀ z ∈ tableOf (gHd (G_X3_digitsOf D l as h0 hF o)), covers z pc = false := hpN
def f_X3_digitsOf_j85 (x0 : Nat) (x1 : Int32) (x3 : Int32) (s0 : Nat) (s1 : Int32) (h : AH) : Option (Unit × AH) :=
  gd (nrw .boolean s1) <|
  bd (stF h 2 s0 23 (.int s1)) fun h2 =>
  bd (gtR h2 2 x0 9) fun v3 =>
  bd (gtI h2 2 x0 22) fun v4 =>
  bd (stI h2 v3 (((4 : Int32) * v4) + x1) x3) fun h5 =>
  some ((), h5)
theorem w_X3_digitsOf_j85 (D : va_G) (l : Launch) (hl : l.stackTraces = false) (as : List Value) (h0 : AH) {r : Unit} {hF : AH} (x0 : Nat) (x1 : Int32) (x3 : Int32) (s0 : Nat) (s1 : Int32) (h : AH) (e : f_X3_digitsOf_j85 x0 x1 x3 s0 s1 h = some (r, hF)) : V (G_X3_digitsOf D l as h0 hF (oV r)) h 85 [(0, .ref x0), (1, .int x1), (3, .int x3)] [.int s1, .ref s0] := by
  unfold f_X3_digitsOf_j85 at e
  obtain ⟨c1, e⟩ := gd_of e
  refine v_pf (pc' := 88) hc_X3_digitsOf ho_X3_digitsOf KX3 23 (Nat.le_of_ble_eq_true rfl) q2265 (Or.inl rfl) rfl dX3_digitsOf_85 rfl (nrw_of c1) (fit_of c1) e (fun h2 _ e => ?_)
  refine v_aload_n (pc' := 89) hc_X3_digitsOf dX3_digitsOf_88 rfl rfl 0 rfl ?_
  refine v_gfR (pc' := 92) hc_X3_digitsOf ho_X3_digitsOf KX3 9 (Nat.le_of_ble_eq_true rfl) q2251 (Or.inl rfl) dX3_digitsOf_89 rfl e (fun v3 _ e => ?_)
  refine v_iconst (pc' := 93) (v := 4) hc_X3_digitsOf dX3_digitsOf_92 rfl rfl ?_
  refine v_aload_n (pc' := 94) hc_X3_digitsOf dX3_digitsOf_93 rfl rfl 0 rfl ?_
  refine v_gfI (pc' := 97) hc_X3_digitsOf ho_X3_digitsOf KX3 22 (Nat.le_of_ble_eq_true rfl) q2264 (Or.inl rfl) dX3_digitsOf_94 rfl e (fun v4 _ e => ?_)
  refine v_imul (pc' := 98) hc_X3_digitsOf dX3_digitsOf_97 rfl ?_
  refine v_iload_n (pc' := 99) hc_X3_digitsOf dX3_digitsOf_98 rfl rfl 1 rfl ?_
  refine v_iadd (pc' := 100) hc_X3_digitsOf dX3_digitsOf_99 rfl ?_
  refine v_iload_n (pc' := 101) hc_X3_digitsOf dX3_digitsOf_100 rfl rfl 2 rfl ?_
  refine v_iast (pc' := 102) hc_X3_digitsOf dX3_digitsOf_101 rfl e (fun h5 _ e => ?_)
  obtain ⟨rfl, rfl⟩ := ret_of e
  exact v_ret hc_X3_digitsOf rfl dX3_digitsOf_102 rfl rfl
def f_X3_digitsOf_j67 (x0 : Nat) (x1 : Int32) (x3 : Int32) (x4 : Int32) (h : AH) : Option (Unit × AH) :=
  bd (gtI h 2 x0 23) fun v1 =>
  if v1 = 0 then (
    if x4 = 0 then (
      f_X3_digitsOf_j85 x0 x1 x3 x0 (1 : Int32) h
    ) else (
      f_X3_digitsOf_j85 x0 x1 x3 x0 (0 : Int32) h
    )
  ) else (
    f_X3_digitsOf_j85 x0 x1 x3 x0 (1 : Int32) h
  )
theorem w_X3_digitsOf_j67 (D : va_G) (l : Launch) (hl : l.stackTraces = false) (as : List Value) (h0 : AH) {r : Unit} {hF : AH} (x0 : Nat) (x1 : Int32) (x3 : Int32) (x4 : Int32) (h : AH) (e : f_X3_digitsOf_j67 x0 x1 x3 x4 h = some (r, hF)) : V (G_X3_digitsOf D l as h0 hF (oV r)) h 67 [(0, .ref x0), (1, .int x1), (3, .int x3), (4, .int x4)] [] := by
  unfold f_X3_digitsOf_j67 at e
  refine v_aload_n (pc' := 68) hc_X3_digitsOf dX3_digitsOf_67 rfl rfl 0 rfl ?_
  refine v_aload_n (pc' := 69) hc_X3_digitsOf dX3_digitsOf_68 rfl rfl 0 rfl ?_
  refine v_gfI (pc' := 72) hc_X3_digitsOf ho_X3_digitsOf KX3 23 (Nat.le_of_ble_eq_true rfl) q2265 (Or.inl rfl) dX3_digitsOf_69 rfl e (fun v1 _ e => ?_)
  refine v_if_ne (pt := 80) (pf := 75) hc_X3_digitsOf dX3_digitsOf_72 rfl rfl e (fun _ e => ?_) (fun _ e => ?_)
  · refine v_iload (pc' := 77) hc_X3_digitsOf dX3_digitsOf_75 rfl 3 rfl ?_
    refine v_if_ne (pt := 84) (pf := 80) hc_X3_digitsOf dX3_digitsOf_77 rfl rfl e (fun _ e => ?_) (fun _ e => ?_)
    · refine v_iconst (pc' := 81) (v := 1) hc_X3_digitsOf dX3_digitsOf_80 rfl rfl ?_
      refine v_goto (pt := 85) hc_X3_digitsOf dX3_digitsOf_81 rfl ?_
      refine v_pick [0, 1, 2] rfl ?_
      exact w_X3_digitsOf_j85 D l hl as h0 x0 x1 x3 x0 (1 : Int32) h e
    · refine v_iconst (pc' := 85) (v := 0) hc_X3_digitsOf dX3_digitsOf_84 rfl rfl ?_
      refine v_pick [0, 1, 2] rfl ?_
      exact w_X3_digitsOf_j85 D l hl as h0 x0 x1 x3 x0 (0 : Int32) h e
  · refine v_iconst (pc' := 81) (v := 1) hc_X3_digitsOf dX3_digitsOf_80 rfl rfl ?_
    refine v_goto (pt := 85) hc_X3_digitsOf dX3_digitsOf_81 rfl ?_
    refine v_pick [0, 1, 2] rfl ?_
    exact w_X3_digitsOf_j85 D l hl as h0 x0 x1 x3 x0 (1 : Int32) h e
def fb_X3_digitsOf_l11 (rec : Nat → Int32 → Int32 → Int32 → Int32 → AH → Option (Unit × AH)) (x0 : Nat) (x1 : Int32) (x2 : Int32) (x3 : Int32) (x4 : Int32) (h : AH) : Option (Unit × AH) :=
  bd (gtI h 2 x0 23) fun v1 =>
  if v1 = 0 then (
    if x2 ≤ x4 then (
      f_X3_digitsOf_j67 x0 x1 x3 x4 h
    ) else (
      gd (isC h 2 x0) <|
      bd2 (f_X3_here x0 h) fun r3 h4 =>
      bd2 (f_X3_in r3 (48 : Int32) (57 : Int32) h4) fun r6 h7 =>
      if r6 = 0 then (
        f_X3_digitsOf_j67 x0 x1 x3 x4 h7
      ) else (
        gd (isC h7 2 x0) <|
        bd2 (f_X3_here x0 h7) fun r10 h11 =>
        bd (gtI h11 2 x0 20) fun v13 =>
        bd (stF h11 2 x0 20 (.int (v13 + (1 : Int32)))) fun h14 =>
        rec x0 x1 x2 ((((10 : Int32) * x3) + r10) - (48 : Int32)) (x4 + 1) h14
      )
    )
  ) else (
    f_X3_digitsOf_j67 x0 x1 x3 x4 h
  )
def f_X3_digitsOf_l11 : Nat → Nat → Int32 → Int32 → Int32 → Int32 → AH → Option (Unit × AH)
  | 0 => fun _ _ _ _ _ _ => none
  | n + 1 => fb_X3_digitsOf_l11 (f_X3_digitsOf_l11 n) 
theorem w_X3_digitsOf_l11 (D : va_G) (l : Launch) (hl : l.stackTraces = false) (as : List Value) (h0 : AH) {r : Unit} {hF : AH} : ∀ (n : Nat) (x0 : Nat) (x1 : Int32) (x2 : Int32) (x3 : Int32) (x4 : Int32) (h : AH), f_X3_digitsOf_l11 n x0 x1 x2 x3 x4 h = some (r, hF) → V (G_X3_digitsOf D l as h0 hF (oV r)) h 11 [(0, .ref x0), (1, .int x1), (2, .int x2), (3, .int x3), (4, .int x4)] [] := by
  intro n; induction n with
  | zero => intro x0 x1 x2 x3 x4 h e; exact absurd (show (none : Option (Unit × AH)) = some _ from e) (fun z => nomatch z)
  | succ n IH =>
    intro x0 x1 x2 x3 x4 h e
    have e : fb_X3_digitsOf_l11 (f_X3_digitsOf_l11 n) x0 x1 x2 x3 x4 h = some (r, hF) := e
    unfold fb_X3_digitsOf_l11 at e
    refine v_aload_n (pc' := 12) hc_X3_digitsOf dX3_digitsOf_11 rfl rfl 0 rfl ?_
    refine v_gfI (pc' := 15) hc_X3_digitsOf ho_X3_digitsOf KX3 23 (Nat.le_of_ble_eq_true rfl) q2265 (Or.inl rfl) dX3_digitsOf_12 rfl e (fun v1 _ e => ?_)
    refine v_if_ne (pt := 67) (pf := 18) hc_X3_digitsOf dX3_digitsOf_15 rfl rfl e (fun _ e => ?_) (fun _ e => ?_)
    · refine v_iload (pc' := 20) hc_X3_digitsOf dX3_digitsOf_18 rfl 4 rfl ?_
      refine v_iload_n (pc' := 21) hc_X3_digitsOf dX3_digitsOf_20 rfl rfl 2 rfl ?_
      refine v_icmp_ge (pt := 67) (pf := 24) hc_X3_digitsOf dX3_digitsOf_21 rfl rfl e (fun _ e => ?_) (fun _ e => ?_)
      · refine v_pick [0, 1, 3, 4] rfl ?_
        exact w_X3_digitsOf_j67 D l hl as h0 x0 x1 x3 x4 h e
      · refine v_aload_n (pc' := 25) hc_X3_digitsOf dX3_digitsOf_24 rfl rfl 0 rfl ?_
        obtain ⟨c2, e⟩ := gd_of e
        obtain ⟨r3, h4, e5, e⟩ := bd2_of e
        refine k_V (pc' := 28) (ci := 2) (n := 0) hc_X3_digitsOf ho_X3_digitsOf rfl c2 (w_X3_here D l hl x0 h e5) (wA_l q2627) q2629 (wA_l qs69) q85 q2630 hy_329 ⟨Nat.le_of_ble_eq_true rfl, Nat.le_of_ble_eq_true rfl⟩ rfl rfl (Nat.le_of_ble_eq_true rfl) dX3_digitsOf_25 rfl (kS ?_) kN
        refine v_bipush (pc' := 30) (v := 48) hc_X3_digitsOf dX3_digitsOf_28 rfl rfl ?_
        refine v_bipush (pc' := 32) (v := 57) hc_X3_digitsOf dX3_digitsOf_30 rfl rfl ?_
        obtain ⟨r6, h7, e8, e⟩ := bd2_of e
        refine k_S (pc' := 35) (n := 3) hc_X3_digitsOf ho_X3_digitsOf (w_X3_in D l hl r3 (48 : Int32) (57 : Int32) h4 e8) (wA_l q2328) q2329 q85 q2330 hy_118 ⟨Nat.le_of_ble_eq_true rfl, Nat.le_of_ble_eq_true rfl⟩ rfl rfl (Nat.le_of_ble_eq_true rfl) dX3_digitsOf_32 rfl (kS ?_) kN
        refine v_if_eq (pt := 67) (pf := 38) hc_X3_digitsOf dX3_digitsOf_35 rfl rfl e (fun _ e => ?_) (fun _ e => ?_)
        · refine v_pick [0, 1, 3, 4] rfl ?_
          exact w_X3_digitsOf_j67 D l hl as h0 x0 x1 x3 x4 h7 e
        · refine v_bipush (pc' := 40) (v := 10) hc_X3_digitsOf dX3_digitsOf_38 rfl rfl ?_
          refine v_iload_n (pc' := 41) hc_X3_digitsOf dX3_digitsOf_40 rfl rfl 3 rfl ?_
          refine v_imul (pc' := 42) hc_X3_digitsOf dX3_digitsOf_41 rfl ?_
          refine v_aload_n (pc' := 43) hc_X3_digitsOf dX3_digitsOf_42 rfl rfl 0 rfl ?_
          obtain ⟨c9, e⟩ := gd_of e
          obtain ⟨r10, h11, e12, e⟩ := bd2_of e
          refine k_V (pc' := 46) (ci := 2) (n := 0) hc_X3_digitsOf ho_X3_digitsOf rfl c9 (w_X3_here D l hl x0 h7 e12) (wA_l q2627) q2629 (wA_l qs69) q85 q2630 hy_329 ⟨Nat.le_of_ble_eq_true rfl, Nat.le_of_ble_eq_true rfl⟩ rfl rfl (Nat.le_of_ble_eq_true rfl) dX3_digitsOf_43 rfl (kS ?_) kN
          refine v_iadd (pc' := 47) hc_X3_digitsOf dX3_digitsOf_46 rfl ?_
          refine v_bipush (pc' := 49) (v := 48) hc_X3_digitsOf dX3_digitsOf_47 rfl rfl ?_
          refine v_isub (pc' := 50) hc_X3_digitsOf dX3_digitsOf_49 rfl ?_
          refine v_istore_n (pc' := 51) (lv' := [(3, .int ((((10 : Int32) * x3) + r10) - (48 : Int32))), (0, .ref x0), (1, .int x1), (2, .int x2), (4, .int x4)]) hc_X3_digitsOf dX3_digitsOf_50 rfl rfl (Nat.le_of_ble_eq_true rfl) rfl ?_
          refine v_aload_n (pc' := 52) hc_X3_digitsOf dX3_digitsOf_51 rfl rfl 1 rfl ?_
          refine v_dup (pc' := 53) hc_X3_digitsOf dX3_digitsOf_52 rfl rfl ?_
          refine v_gfI (pc' := 56) hc_X3_digitsOf ho_X3_digitsOf KX3 20 (Nat.le_of_ble_eq_true rfl) q2262 (Or.inl rfl) dX3_digitsOf_53 rfl e (fun v13 _ e => ?_)
          refine v_iconst (pc' := 57) (v := 1) hc_X3_digitsOf dX3_digitsOf_56 rfl rfl ?_
          refine v_iadd (pc' := 58) hc_X3_digitsOf dX3_digitsOf_57 rfl ?_
          refine v_pf (pc' := 61) hc_X3_digitsOf ho_X3_digitsOf KX3 20 (Nat.le_of_ble_eq_true rfl) q2262 (Or.inl rfl) rfl dX3_digitsOf_58 rfl rfl rfl e (fun h14 _ e => ?_)
          refine v_iinc (pc' := 64) (lv' := [(4, .int (x4 + 1)), (3, .int ((((10 : Int32) * x3) + r10) - (48 : Int32))), (0, .ref x0), (1, .int x1), (2, .int x2)]) (v := x4 + 1) hc_X3_digitsOf dX3_digitsOf_61 rfl 4 rfl rfl (Nat.le_of_ble_eq_true rfl) rfl ?_
          refine v_goto (pt := 11) hc_X3_digitsOf dX3_digitsOf_64 rfl ?_
          refine v_pick [2, 3, 4, 1, 0] rfl ?_
          exact IH x0 x1 x2 ((((10 : Int32) * x3) + r10) - (48 : Int32)) (x4 + 1) h14 e
    · refine v_pick [0, 1, 3, 4] rfl ?_
      exact w_X3_digitsOf_j67 D l hl as h0 x0 x1 x3 x4 h e
def f_X3_digitsOf (x0 : Nat) (x1 : Int32) (x2 : Int32) (h : AH) : Option (Unit × AH) :=
  gd (isC h 2 x0) <|
  bd2 (f_X3_must x0 (32 : Int32) h) fun r2 h3 =>
  f_X3_digitsOf_l11 NN x0 x1 x2 (0 : Int32) (0 : Int32) h3
theorem v_X3_digitsOf (D : va_G) (l : Launch) (hl : l.stackTraces = false) (as : List Value) (h0 : AH) {r : Unit} {hF : AH} (x0 : Nat) (x1 : Int32) (x2 : Int32) (h : AH) (e : f_X3_digitsOf x0 x1 x2 h = some (r, hF)) : V (G_X3_digitsOf D l as h0 hF (oV r)) h 0 [(0, .ref x0), (1, .int x1), (2, .int x2)] [] := by
  unfold f_X3_digitsOf at e
  refine v_aload_n (pc' := 1) hc_X3_digitsOf dX3_digitsOf_0 rfl rfl 0 rfl ?_
  refine v_bipush (pc' := 3) (v := 32) hc_X3_digitsOf dX3_digitsOf_1 rfl rfl ?_
  obtain ⟨c1, e⟩ := gd_of e
  obtain ⟨r2, h3, e4, e⟩ := bd2_of e
  refine k_V (pc' := 6) (ci := 2) (n := 1) hc_X3_digitsOf ho_X3_digitsOf rfl c1 (w_X3_must D l hl x0 (32 : Int32) h e4) (wA_l q2636) q2638 (wA_l qs71) q85 q2639 hy_330 ⟨Nat.le_of_ble_eq_true rfl, Nat.le_of_ble_eq_true rfl⟩ rfl rfl (Nat.le_of_ble_eq_true rfl) dX3_digitsOf_3 rfl (kU ?_) kN
  refine v_iconst (pc' := 7) (v := 0) hc_X3_digitsOf dX3_digitsOf_6 rfl rfl ?_
  refine v_istore_n (pc' := 8) (lv' := [(3, .int (0 : Int32)), (0, .ref x0), (1, .int x1), (2, .int x2)]) hc_X3_digitsOf dX3_digitsOf_7 rfl rfl (Nat.le_of_ble_eq_true rfl) rfl ?_
  refine v_iconst (pc' := 9) (v := 0) hc_X3_digitsOf dX3_digitsOf_8 rfl rfl ?_
  refine v_istore (pc' := 11) (lv' := [(4, .int (0 : Int32)), (3, .int (0 : Int32)), (0, .ref x0), (1, .int x1), (2, .int x2)]) hc_X3_digitsOf dX3_digitsOf_9 rfl (Nat.le_of_ble_eq_true rfl) rfl ?_
  refine v_pick [2, 3, 4, 1, 0] rfl ?_
  exact w_X3_digitsOf_l11 D l hl as h0 NN x0 x1 x2 (0 : Int32) (0 : Int32) h3 e
theorem w_X3_digitsOf (D : va_G) (l : Launch) (hl : l.stackTraces = false) (x0 : Nat) (x1 : Int32) (x2 : Int32) (h : AH) {r : Unit} {hF : AH} (e : f_X3_digitsOf x0 x1 x2 h = some (r, hF)) : MetV D l yX3_digitsOf (Cond.code yX3_digitsOf cX3_digitsOf 5 (Option.none : Option FieldType)) 3 89 [.ref x0, .int x1, .int x2] h hF (oV r) :=
  met_ofF (by decide +kernel) hl (Nat.le_of_ble_eq_true rfl) rfl (v_X3_digitsOf D l hl [.ref x0, .int x1, .int x2] h x0 x1 x2 h e)
/-! BlockPapersModel.command(ILjava/lang/String;II)V  -/
abbrev G_X3_command (D : va_G) (l : Launch) (as : List Value) (h0 hF : AH) (o : Out) : CT := (D, l, (yX3_command.cls, yX3_command, cX3_command, 6, (Option.none : Option FieldType), 6, 154, []), as, h0, hF, o)
theorem hc_X3_command {D : va_G} {l : Launch} {as : List Value} {h0 hF : AH} {o : Out} : gC (G_X3_command D l as h0 hF o) = cX3_command := rfl
theorem ho_X3_command {D : va_G} {l : Launch} {as : List Value} {h0 hF : AH} {o : Out} : gO (G_X3_command D l as h0 hF o) = "BlockPapersModel" := rfl
theorem hp_X3_command {D : va_G} {l : Launch} {as : List Value} {h0 hF : AH} {o : Out} (pc : Nat) : ∀ z ∈ tableOf (gHd (G_X3_command D l as h0 hF o)), covers z pc = false := hpN
def fb_X3_command_l49 (rec : Nat → Int32 → Int32 → AH → Option (Unit × AH)) (x0 : Nat) (x4 : Int32) (x5 : Int32) (h : AH) : Option (Unit × AH) :=
  if x4 < x5 then (
    bd (gtI h 2 x0 22) fun v1 =>
    bd (stF h 2 x0 22 (.int (v1 + (1 : Int32)))) fun h2 =>
    some ((), h2)
  ) else (
    gd (isC h 2 x0) <|
    bd2 (f_X3_digitsOf x0 x5 (4 : Int32) h) fun r4 h5 =>
    rec x0 x4 (x5 + 1) h5
  )
def f_X3_command_l49 : Nat → Nat → Int32 → Int32 → AH → Option (Unit × AH)
  | 0 => fun _ _ _ _ => none
  | n + 1 => fb_X3_command_l49 (f_X3_command_l49 n) 
theorem w_X3_command_l49 (D : va_G) (l : Launch) (hl : l.stackTraces = false) (as : List Value) (h0 : AH) {r : Unit} {hF : AH} : ∀ (n : Nat) (x0 : Nat) (x4 : Int32) (x5 : Int32) (h : AH), f_X3_command_l49 n x0 x4 x5 h = some (r, hF) → V (G_X3_command D l as h0 hF (oV r)) h 49 [(0, .ref x0), (4, .int x4), (5, .int x5)] [] := by
  intro n; induction n with
  | zero => intro x0 x4 x5 h e; exact absurd (show (none : Option (Unit × AH)) = some _ from e) (fun z => nomatch z)
  | succ n IH =>
    intro x0 x4 x5 h e
    have e : fb_X3_command_l49 (f_X3_command_l49 n) x0 x4 x5 h = some (r, hF) := e
    unfold fb_X3_command_l49 at e
    refine v_iload (pc' := 51) hc_X3_command dX3_command_49 rfl 2 rfl ?_
    refine v_iload (pc' := 53) hc_X3_command dX3_command_51 rfl 1 rfl ?_
    refine v_icmp_gt (pt := 69) (pf := 56) hc_X3_command dX3_command_53 rfl rfl e (fun _ e => ?_) (fun _ e => ?_)
    · refine v_aload_n (pc' := 70) hc_X3_command dX3_command_69 rfl rfl 0 rfl ?_
      refine v_dup (pc' := 71) hc_X3_command dX3_command_70 rfl rfl ?_
      refine v_gfI (pc' := 74) hc_X3_command ho_X3_command KX3 22 (Nat.le_of_ble_eq_true rfl) q2264 (Or.inl rfl) dX3_command_71 rfl e (fun v1 _ e => ?_)
      refine v_iconst (pc' := 75) (v := 1) hc_X3_command dX3_command_74 rfl rfl ?_
      refine v_iadd (pc' := 76) hc_X3_command dX3_command_75 rfl ?_
      refine v_pf (pc' := 79) hc_X3_command ho_X3_command KX3 22 (Nat.le_of_ble_eq_true rfl) q2264 (Or.inl rfl) rfl dX3_command_76 rfl rfl rfl e (fun h2 _ e => ?_)
      obtain ⟨rfl, rfl⟩ := ret_of e
      exact v_ret hc_X3_command rfl dX3_command_79 rfl rfl
    · refine v_aload_n (pc' := 57) hc_X3_command dX3_command_56 rfl rfl 0 rfl ?_
      refine v_iload (pc' := 59) hc_X3_command dX3_command_57 rfl 2 rfl ?_
      refine v_iconst (pc' := 60) (v := 4) hc_X3_command dX3_command_59 rfl rfl ?_
      obtain ⟨c3, e⟩ := gd_of e
      obtain ⟨r4, h5, e6, e⟩ := bd2_of e
      refine k_V (pc' := 63) (ci := 2) (n := 2) hc_X3_command ho_X3_command rfl c3 (w_X3_digitsOf D l hl x0 x5 (4 : Int32) h e6) (wA_l q2640) q2642 (wA_l qs72) q85 q2643 hy_331 ⟨Nat.le_of_ble_eq_true rfl, Nat.le_of_ble_eq_true rfl⟩ rfl rfl (Nat.le_of_ble_eq_true rfl) dX3_command_60 rfl (kU ?_) kN
      refine v_iinc (pc' := 66) (lv' := [(5, .int (x5 + 1)), (0, .ref x0), (4, .int x4)]) (v := x5 + 1) hc_X3_command dX3_command_63 rfl 2 rfl rfl (Nat.le_of_ble_eq_true rfl) rfl ?_
      refine v_goto (pt := 49) hc_X3_command dX3_command_66 rfl ?_
      refine v_pick [1, 2, 0] rfl ?_
      exact IH x0 x4 (x5 + 1) h5 e
def fb_X3_command_l15 (rec : Nat → Nat → Int32 → Int32 → Int32 → AH → Option (Unit × AH)) (x0 : Nat) (x2 : Nat) (x3 : Int32) (x4 : Int32) (x5 : Int32) (h : AH) : Option (Unit × AH) :=
  gd (isC h 19 x2) <|
  bd2 (f_J6_length x2 h) fun r2 h3 =>
  if r2 ≤ x5 then (
    gd (isC h3 2 x0) <|
    bd2 (f_X3_digitsOf x0 (1 : Int32) x3 h3) fun r6 h7 =>
    f_X3_command_l49 NN x0 x4 (2 : Int32) h7
  ) else (
    gd (isC h3 19 x2) <|
    bd2 (f_J6_charAt x2 x5 h3) fun r10 h11 =>
    gd (isC h11 2 x0) <|
    bd2 (f_X3_must x0 r10 h11) fun r14 h15 =>
    rec x0 x2 x3 x4 (x5 + 1) h15
  )
def f_X3_command_l15 : Nat → Nat → Nat → Int32 → Int32 → Int32 → AH → Option (Unit × AH)
  | 0 => fun _ _ _ _ _ _ => none
  | n + 1 => fb_X3_command_l15 (f_X3_command_l15 n) 
theorem w_X3_command_l15 (D : va_G) (l : Launch) (hl : l.stackTraces = false) (as : List Value) (h0 : AH) {r : Unit} {hF : AH} : ∀ (n : Nat) (x0 : Nat) (x2 : Nat) (x3 : Int32) (x4 : Int32) (x5 : Int32) (h : AH), f_X3_command_l15 n x0 x2 x3 x4 x5 h = some (r, hF) → V (G_X3_command D l as h0 hF (oV r)) h 15 [(0, .ref x0), (2, .ref x2), (3, .int x3), (4, .int x4), (5, .int x5)] [] := by
  intro n; induction n with
  | zero => intro x0 x2 x3 x4 x5 h e; exact absurd (show (none : Option (Unit × AH)) = some _ from e) (fun z => nomatch z)
  | succ n IH =>
    intro x0 x2 x3 x4 x5 h e
    have e : fb_X3_command_l15 (f_X3_command_l15 n) x0 x2 x3 x4 x5 h = some (r, hF) := e
    unfold fb_X3_command_l15 at e
    refine v_iload (pc' := 17) hc_X3_command dX3_command_15 rfl 4 rfl ?_
    refine v_aload_n (pc' := 18) hc_X3_command dX3_command_17 rfl rfl 1 rfl ?_
    obtain ⟨c1, e⟩ := gd_of e
    obtain ⟨r2, h3, e4, e⟩ := bd2_of e
    refine k_V (pc' := 21) (ci := 19) (n := 0) hc_X3_command ho_X3_command rfl c1 (w_J6_length D l hl x2 h e4) (wA_l q2564) q697 (wA_l q698) q83 q699 hy_232 ⟨Nat.le_of_ble_eq_true rfl, Nat.le_of_ble_eq_true rfl⟩ rfl rfl (Nat.le_of_ble_eq_true rfl) dX3_command_18 rfl (kS ?_) kN
    refine v_icmp_ge (pt := 40) (pf := 24) hc_X3_command dX3_command_21 rfl rfl e (fun _ e => ?_) (fun _ e => ?_)
    · refine v_aload_n (pc' := 41) hc_X3_command dX3_command_40 rfl rfl 0 rfl ?_
      refine v_iconst (pc' := 42) (v := 1) hc_X3_command dX3_command_41 rfl rfl ?_
      refine v_iload_n (pc' := 43) hc_X3_command dX3_command_42 rfl rfl 2 rfl ?_
      obtain ⟨c5, e⟩ := gd_of e
      obtain ⟨r6, h7, e8, e⟩ := bd2_of e
      refine k_V (pc' := 46) (ci := 2) (n := 2) hc_X3_command ho_X3_command rfl c5 (w_X3_digitsOf D l hl x0 (1 : Int32) x3 h3 e8) (wA_l q2640) q2642 (wA_l qs72) q85 q2643 hy_331 ⟨Nat.le_of_ble_eq_true rfl, Nat.le_of_ble_eq_true rfl⟩ rfl rfl (Nat.le_of_ble_eq_true rfl) dX3_command_43 rfl (kU ?_) kN
      refine v_iconst (pc' := 47) (v := 2) hc_X3_command dX3_command_46 rfl rfl ?_
      refine v_istore (pc' := 49) (lv' := [(5, .int (2 : Int32)), (0, .ref x0), (2, .ref x2), (3, .int x3), (4, .int x4)]) hc_X3_command dX3_command_47 rfl (Nat.le_of_ble_eq_true rfl) rfl ?_
      refine v_pick [1, 4, 0] rfl ?_
      exact w_X3_command_l49 D l hl as h0 NN x0 x4 (2 : Int32) h7 e
    · refine v_aload_n (pc' := 25) hc_X3_command dX3_command_24 rfl rfl 0 rfl ?_
      refine v_aload_n (pc' := 26) hc_X3_command dX3_command_25 rfl rfl 1 rfl ?_
      refine v_iload (pc' := 28) hc_X3_command dX3_command_26 rfl 4 rfl ?_
      obtain ⟨c9, e⟩ := gd_of e
      obtain ⟨r10, h11, e12, e⟩ := bd2_of e
      refine k_V (pc' := 31) (ci := 19) (n := 1) hc_X3_command ho_X3_command rfl c9 (w_J6_charAt D l hl x2 x5 h3 e12) (wA_l q2565) q1826 (wA_l q1827) q83 q1828 hy_262 ⟨Nat.le_of_ble_eq_true rfl, Nat.le_of_ble_eq_true rfl⟩ rfl rfl (Nat.le_of_ble_eq_true rfl) dX3_command_28 rfl (kS ?_) kN
      obtain ⟨c13, e⟩ := gd_of e
      obtain ⟨r14, h15, e16, e⟩ := bd2_of e
      refine k_V (pc' := 34) (ci := 2) (n := 1) hc_X3_command ho_X3_command rfl c13 (w_X3_must D l hl x0 r10 h11 e16) (wA_l q2636) q2638 (wA_l qs71) q85 q2639 hy_330 ⟨Nat.le_of_ble_eq_true rfl, Nat.le_of_ble_eq_true rfl⟩ rfl rfl (Nat.le_of_ble_eq_true rfl) dX3_command_31 rfl (kU ?_) kN
      refine v_iinc (pc' := 37) (lv' := [(5, .int (x5 + 1)), (0, .ref x0), (2, .ref x2), (3, .int x3), (4, .int x4)]) (v := x5 + 1) hc_X3_command dX3_command_34 rfl 4 rfl rfl (Nat.le_of_ble_eq_true rfl) rfl ?_
      refine v_goto (pt := 15) hc_X3_command dX3_command_37 rfl ?_
      refine v_pick [1, 2, 3, 4, 0] rfl ?_
      exact IH x0 x2 x3 x4 (x5 + 1) h15 e
def f_X3_command (x0 : Nat) (x1 : Int32) (x2 : Nat) (x3 : Int32) (x4 : Int32) (h : AH) : Option (Unit × AH) :=
  bd (gtR h 2 x0 9) fun v1 =>
  bd (gtI h 2 x0 22) fun v2 =>
  bd (stI h v1 ((4 : Int32) * v2) x1) fun h3 =>
  f_X3_command_l15 NN x0 x2 x3 x4 (0 : Int32) h3
theorem v_X3_command (D : va_G) (l : Launch) (hl : l.stackTraces = false) (as : List Value) (h0 : AH) {r : Unit} {hF : AH} (x0 : Nat) (x1 : Int32) (x2 : Nat) (x3 : Int32) (x4 : Int32) (h : AH) (e : f_X3_command x0 x1 x2 x3 x4 h = some (r, hF)) : V (G_X3_command D l as h0 hF (oV r)) h 0 [(0, .ref x0), (1, .int x1), (2, .ref x2), (3, .int x3), (4, .int x4)] [] := by
  unfold f_X3_command at e
  refine v_aload_n (pc' := 1) hc_X3_command dX3_command_0 rfl rfl 0 rfl ?_
  refine v_gfR (pc' := 4) hc_X3_command ho_X3_command KX3 9 (Nat.le_of_ble_eq_true rfl) q2251 (Or.inl rfl) dX3_command_1 rfl e (fun v1 _ e => ?_)
  refine v_iconst (pc' := 5) (v := 4) hc_X3_command dX3_command_4 rfl rfl ?_
  refine v_aload_n (pc' := 6) hc_X3_command dX3_command_5 rfl rfl 0 rfl ?_
  refine v_gfI (pc' := 9) hc_X3_command ho_X3_command KX3 22 (Nat.le_of_ble_eq_true rfl) q2264 (Or.inl rfl) dX3_command_6 rfl e (fun v2 _ e => ?_)
  refine v_imul (pc' := 10) hc_X3_command dX3_command_9 rfl ?_
  refine v_iload_n (pc' := 11) hc_X3_command dX3_command_10 rfl rfl 1 rfl ?_
  refine v_iast (pc' := 12) hc_X3_command dX3_command_11 rfl e (fun h3 _ e => ?_)
  refine v_iconst (pc' := 13) (v := 0) hc_X3_command dX3_command_12 rfl rfl ?_
  refine v_istore (pc' := 15) (lv' := [(5, .int (0 : Int32)), (0, .ref x0), (1, .int x1), (2, .ref x2), (3, .int x3), (4, .int x4)]) hc_X3_command dX3_command_13 rfl (Nat.le_of_ble_eq_true rfl) rfl ?_
  refine v_pick [1, 3, 4, 5, 0] rfl ?_
  exact w_X3_command_l15 D l hl as h0 NN x0 x2 x3 x4 (0 : Int32) h3 e
theorem w_X3_command (D : va_G) (l : Launch) (hl : l.stackTraces = false) (x0 : Nat) (x1 : Int32) (x2 : Nat) (x3 : Int32) (x4 : Int32) (h : AH) {r : Unit} {hF : AH} (e : f_X3_command x0 x1 x2 x3 x4 h = some (r, hF)) : MetV D l yX3_command (Cond.code yX3_command cX3_command 6 (Option.none : Option FieldType)) 6 154 [.ref x0, .int x1, .ref x2, .int x3, .int x4] h hF (oV r) :=
  met_ofF (by decide +kernel) hl (Nat.le_of_ble_eq_true rfl) rfl (v_X3_command D l hl [.ref x0, .int x1, .ref x2, .int x3, .int x4] h x0 x1 x2 x3 x4 h e)
/-! BlockPapersModel.readsOne()V  -/
abbrev G_X3_readsOne (D : va_G) (l : Launch) (as : List Value) (h0 hF : AH) (o : Out) : CT := (D, l, (yX3_readsOne.cls, yX3_readsOne, cX3_readsOne, 1, (Option.none : Option FieldType), 7, 179, []), as, h0, hF, o)
theorem hc_X3_readsOne {D : va_G} {l : Launch} {as : List Value} {h0 hF : AH} {o : Out} : gC (G_X3_readsOne D l as h0 hF o) = cX3_readsOne := rfl
theorem ho_X3_readsOne {D : va_G} {l : Launch} {as : List Value} {h0 hF : AH} {o : Out} : gO (G_X3_readsOne D l as h0 hF o) = "BlockPapersModel" := rfl
theorem hp_X3_readsOne {D : va_G} {l : Launch} {as : List Value} {h0 hF : AH} {o : Out} (pc : Nat) : ∀ z ∈ tableOf (gHd (G_X3_readsOne D l as h0 hF o)), covers z pc = false := hpN
def f_X3_readsOne (x0 : Nat) (h : AH) : Option (Unit × AH) :=
  gd (isC h 2 x0) <|
  bd2 (f_X3_here x0 h) fun r2 h3 =>
  if r2 = 98 then (
    bd (aE h3 106) fun v5 =>
    gd (isC h3 2 x0) <|
    bd2 (f_X3_command x0 (3 : Int32) v5 (4 : Int32) (1 : Int32) h3) fun r7 h8 =>
    some ((), h8)
  ) else (
  if r2 = 99 then (
    bd (aE h3 102) fun v11 =>
    gd (isC h3 2 x0) <|
    bd2 (f_X3_command x0 (5 : Int32) v11 (1 : Int32) (1 : Int32) h3) fun r13 h14 =>
    some ((), h14)
  ) else (
  if r2 = 102 then (
    bd (aE h3 110) fun v17 =>
    gd (isC h3 2 x0) <|
    bd2 (f_X3_command x0 (4 : Int32) v17 (1 : Int32) (1 : Int32) h3) fun r19 h20 =>
    some ((), h20)
  ) else (
  if r2 = 104 then (
    bd (aE h3 108) fun v23 =>
    gd (isC h3 2 x0) <|
    bd2 (f_X3_command x0 (1 : Int32) v23 (1 : Int32) (2 : Int32) h3) fun r25 h26 =>
    some ((), h26)
  ) else (
  if r2 = 109 then (
    bd (aE h3 104) fun v29 =>
    gd (isC h3 2 x0) <|
    bd2 (f_X3_command x0 (6 : Int32) v29 (4 : Int32) (3 : Int32) h3) fun r31 h32 =>
    some ((), h32)
  ) else (
  if r2 = 112 then (
    bd (aE h3 105) fun v35 =>
    gd (isC h3 2 x0) <|
    bd2 (f_X3_command x0 (0 : Int32) v35 (1 : Int32) (3 : Int32) h3) fun r37 h38 =>
    some ((), h38)
  ) else (
  if r2 = 115 then (
    bd (aE h3 109) fun v41 =>
    gd (isC h3 2 x0) <|
    bd2 (f_X3_command x0 (2 : Int32) v41 (1 : Int32) (1 : Int32) h3) fun r43 h44 =>
    some ((), h44)
  ) else (
  bd (stF h3 2 x0 23 (.int (1 : Int32))) fun h47 =>
  some ((), h47)
  )))))))
theorem v_X3_readsOne (D : va_G) (l : Launch) (hl : l.stackTraces = false) (as : List Value) (h0 : AH) {r : Unit} {hF : AH} (x0 : Nat) (h : AH) (e : f_X3_readsOne x0 h = some (r, hF)) : V (G_X3_readsOne D l as h0 hF (oV r)) h 0 [(0, .ref x0)] [] := by
  unfold f_X3_readsOne at e
  refine v_aload_n (pc' := 1) hc_X3_readsOne dX3_readsOne_0 rfl rfl 0 rfl ?_
  obtain ⟨c1, e⟩ := gd_of e
  obtain ⟨r2, h3, e4, e⟩ := bd2_of e
  refine k_V (pc' := 4) (ci := 2) (n := 0) hc_X3_readsOne ho_X3_readsOne rfl c1 (w_X3_here D l hl x0 h e4) (wA_l q2627) q2629 (wA_l qs69) q85 q2630 hy_329 ⟨Nat.le_of_ble_eq_true rfl, Nat.le_of_ble_eq_true rfl⟩ rfl rfl (Nat.le_of_ble_eq_true rfl) dX3_readsOne_1 rfl (kS ?_) kN
  rcases ite_cs e with ⟨n10, e⟩ | ⟨n10, e⟩
  · refine v_tbl (off := 127) (pt := 131) hc_X3_readsOne dX3_readsOne_4 rfl rfl (by rw [n10]; rfl) rfl ?_
    refine v_aload_n (pc' := 132) hc_X3_readsOne dX3_readsOne_131 rfl rfl 0 rfl ?_
    refine v_iconst (pc' := 133) (v := 3) hc_X3_readsOne dX3_readsOne_132 rfl rfl ?_
    refine v_ldcwS (pc' := 136) (tx := "back") (j := 106) hc_X3_readsOne ho_X3_readsOne (by decide +kernel) dX3_readsOne_133 rfl e (fun v5 _ e => ?_)
    refine v_iconst (pc' := 137) (v := 4) hc_X3_readsOne dX3_readsOne_136 rfl rfl ?_
    refine v_iconst (pc' := 138) (v := 1) hc_X3_readsOne dX3_readsOne_137 rfl rfl ?_
    obtain ⟨c6, e⟩ := gd_of e
    obtain ⟨r7, h8, e9, e⟩ := bd2_of e
    refine k_V (pc' := 141) (ci := 2) (n := 4) hc_X3_readsOne ho_X3_readsOne rfl c6 (w_X3_command D l hl x0 (3 : Int32) v5 (4 : Int32) (1 : Int32) h3 e9) (wA_l q2632) q2634 (wA_l qs70) q85 q2635 hy_332 ⟨Nat.le_of_ble_eq_true rfl, Nat.le_of_ble_eq_true rfl⟩ rfl rfl (Nat.le_of_ble_eq_true rfl) dX3_readsOne_138 rfl (kU ?_) kN
    refine v_goto (pt := 189) hc_X3_readsOne dX3_readsOne_141 rfl ?_
    obtain ⟨rfl, rfl⟩ := ret_of e
    exact v_ret hc_X3_readsOne rfl dX3_readsOne_189 rfl rfl
  rcases ite_cs e with ⟨n16, e⟩ | ⟨n16, e⟩
  · refine v_tbl (off := 153) (pt := 157) hc_X3_readsOne dX3_readsOne_4 rfl rfl (by rw [n16]; rfl) rfl ?_
    refine v_aload_n (pc' := 158) hc_X3_readsOne dX3_readsOne_157 rfl rfl 0 rfl ?_
    refine v_iconst (pc' := 159) (v := 5) hc_X3_readsOne dX3_readsOne_158 rfl rfl ?_
    refine v_ldcwS (pc' := 162) (tx := "carve") (j := 102) hc_X3_readsOne ho_X3_readsOne (by decide +kernel) dX3_readsOne_159 rfl e (fun v11 _ e => ?_)
    refine v_iconst (pc' := 163) (v := 1) hc_X3_readsOne dX3_readsOne_162 rfl rfl ?_
    refine v_iconst (pc' := 164) (v := 1) hc_X3_readsOne dX3_readsOne_163 rfl rfl ?_
    obtain ⟨c12, e⟩ := gd_of e
    obtain ⟨r13, h14, e15, e⟩ := bd2_of e
    refine k_V (pc' := 167) (ci := 2) (n := 4) hc_X3_readsOne ho_X3_readsOne rfl c12 (w_X3_command D l hl x0 (5 : Int32) v11 (1 : Int32) (1 : Int32) h3 e15) (wA_l q2632) q2634 (wA_l qs70) q85 q2635 hy_332 ⟨Nat.le_of_ble_eq_true rfl, Nat.le_of_ble_eq_true rfl⟩ rfl rfl (Nat.le_of_ble_eq_true rfl) dX3_readsOne_164 rfl (kU ?_) kN
    refine v_goto (pt := 189) hc_X3_readsOne dX3_readsOne_167 rfl ?_
    obtain ⟨rfl, rfl⟩ := ret_of e
    exact v_ret hc_X3_readsOne rfl dX3_readsOne_189 rfl rfl
  rcases ite_cs e with ⟨n22, e⟩ | ⟨n22, e⟩
  · refine v_tbl (off := 140) (pt := 144) hc_X3_readsOne dX3_readsOne_4 rfl rfl (by rw [n22]; rfl) rfl ?_
    refine v_aload_n (pc' := 145) hc_X3_readsOne dX3_readsOne_144 rfl rfl 0 rfl ?_
    refine v_iconst (pc' := 146) (v := 4) hc_X3_readsOne dX3_readsOne_145 rfl rfl ?_
    refine v_ldcwS (pc' := 149) (tx := "finish") (j := 110) hc_X3_readsOne ho_X3_readsOne (by decide +kernel) dX3_readsOne_146 rfl e (fun v17 _ e => ?_)
    refine v_iconst (pc' := 150) (v := 1) hc_X3_readsOne dX3_readsOne_149 rfl rfl ?_
    refine v_iconst (pc' := 151) (v := 1) hc_X3_readsOne dX3_readsOne_150 rfl rfl ?_
    obtain ⟨c18, e⟩ := gd_of e
    obtain ⟨r19, h20, e21, e⟩ := bd2_of e
    refine k_V (pc' := 154) (ci := 2) (n := 4) hc_X3_readsOne ho_X3_readsOne rfl c18 (w_X3_command D l hl x0 (4 : Int32) v17 (1 : Int32) (1 : Int32) h3 e21) (wA_l q2632) q2634 (wA_l qs70) q85 q2635 hy_332 ⟨Nat.le_of_ble_eq_true rfl, Nat.le_of_ble_eq_true rfl⟩ rfl rfl (Nat.le_of_ble_eq_true rfl) dX3_readsOne_151 rfl (kU ?_) kN
    refine v_goto (pt := 189) hc_X3_readsOne dX3_readsOne_154 rfl ?_
    obtain ⟨rfl, rfl⟩ := ret_of e
    exact v_ret hc_X3_readsOne rfl dX3_readsOne_189 rfl rfl
  rcases ite_cs e with ⟨n28, e⟩ | ⟨n28, e⟩
  · refine v_tbl (off := 101) (pt := 105) hc_X3_readsOne dX3_readsOne_4 rfl rfl (by rw [n28]; rfl) rfl ?_
    refine v_aload_n (pc' := 106) hc_X3_readsOne dX3_readsOne_105 rfl rfl 0 rfl ?_
    refine v_iconst (pc' := 107) (v := 1) hc_X3_readsOne dX3_readsOne_106 rfl rfl ?_
    refine v_ldcwS (pc' := 110) (tx := "hang") (j := 108) hc_X3_readsOne ho_X3_readsOne (by decide +kernel) dX3_readsOne_107 rfl e (fun v23 _ e => ?_)
    refine v_iconst (pc' := 111) (v := 1) hc_X3_readsOne dX3_readsOne_110 rfl rfl ?_
    refine v_iconst (pc' := 112) (v := 2) hc_X3_readsOne dX3_readsOne_111 rfl rfl ?_
    obtain ⟨c24, e⟩ := gd_of e
    obtain ⟨r25, h26, e27, e⟩ := bd2_of e
    refine k_V (pc' := 115) (ci := 2) (n := 4) hc_X3_readsOne ho_X3_readsOne rfl c24 (w_X3_command D l hl x0 (1 : Int32) v23 (1 : Int32) (2 : Int32) h3 e27) (wA_l q2632) q2634 (wA_l qs70) q85 q2635 hy_332 ⟨Nat.le_of_ble_eq_true rfl, Nat.le_of_ble_eq_true rfl⟩ rfl rfl (Nat.le_of_ble_eq_true rfl) dX3_readsOne_112 rfl (kU ?_) kN
    refine v_goto (pt := 189) hc_X3_readsOne dX3_readsOne_115 rfl ?_
    obtain ⟨rfl, rfl⟩ := ret_of e
    exact v_ret hc_X3_readsOne rfl dX3_readsOne_189 rfl rfl
  rcases ite_cs e with ⟨n34, e⟩ | ⟨n34, e⟩
  · refine v_tbl (off := 166) (pt := 170) hc_X3_readsOne dX3_readsOne_4 rfl rfl (by rw [n34]; rfl) rfl ?_
    refine v_aload_n (pc' := 171) hc_X3_readsOne dX3_readsOne_170 rfl rfl 0 rfl ?_
    refine v_bipush (pc' := 173) (v := 6) hc_X3_readsOne dX3_readsOne_171 rfl rfl ?_
    refine v_ldcwS (pc' := 176) (tx := "mix") (j := 104) hc_X3_readsOne ho_X3_readsOne (by decide +kernel) dX3_readsOne_173 rfl e (fun v29 _ e => ?_)
    refine v_iconst (pc' := 177) (v := 4) hc_X3_readsOne dX3_readsOne_176 rfl rfl ?_
    refine v_iconst (pc' := 178) (v := 3) hc_X3_readsOne dX3_readsOne_177 rfl rfl ?_
    obtain ⟨c30, e⟩ := gd_of e
    obtain ⟨r31, h32, e33, e⟩ := bd2_of e
    refine k_V (pc' := 181) (ci := 2) (n := 4) hc_X3_readsOne ho_X3_readsOne rfl c30 (w_X3_command D l hl x0 (6 : Int32) v29 (4 : Int32) (3 : Int32) h3 e33) (wA_l q2632) q2634 (wA_l qs70) q85 q2635 hy_332 ⟨Nat.le_of_ble_eq_true rfl, Nat.le_of_ble_eq_true rfl⟩ rfl rfl (Nat.le_of_ble_eq_true rfl) dX3_readsOne_178 rfl (kU ?_) kN
    refine v_goto (pt := 189) hc_X3_readsOne dX3_readsOne_181 rfl ?_
    obtain ⟨rfl, rfl⟩ := ret_of e
    exact v_ret hc_X3_readsOne rfl dX3_readsOne_189 rfl rfl
  rcases ite_cs e with ⟨n40, e⟩ | ⟨n40, e⟩
  · refine v_tbl (off := 88) (pt := 92) hc_X3_readsOne dX3_readsOne_4 rfl rfl (by rw [n40]; rfl) rfl ?_
    refine v_aload_n (pc' := 93) hc_X3_readsOne dX3_readsOne_92 rfl rfl 0 rfl ?_
    refine v_iconst (pc' := 94) (v := 0) hc_X3_readsOne dX3_readsOne_93 rfl rfl ?_
    refine v_ldcwS (pc' := 97) (tx := "print") (j := 105) hc_X3_readsOne ho_X3_readsOne (by decide +kernel) dX3_readsOne_94 rfl e (fun v35 _ e => ?_)
    refine v_iconst (pc' := 98) (v := 1) hc_X3_readsOne dX3_readsOne_97 rfl rfl ?_
    refine v_iconst (pc' := 99) (v := 3) hc_X3_readsOne dX3_readsOne_98 rfl rfl ?_
    obtain ⟨c36, e⟩ := gd_of e
    obtain ⟨r37, h38, e39, e⟩ := bd2_of e
    refine k_V (pc' := 102) (ci := 2) (n := 4) hc_X3_readsOne ho_X3_readsOne rfl c36 (w_X3_command D l hl x0 (0 : Int32) v35 (1 : Int32) (3 : Int32) h3 e39) (wA_l q2632) q2634 (wA_l qs70) q85 q2635 hy_332 ⟨Nat.le_of_ble_eq_true rfl, Nat.le_of_ble_eq_true rfl⟩ rfl rfl (Nat.le_of_ble_eq_true rfl) dX3_readsOne_99 rfl (kU ?_) kN
    refine v_goto (pt := 189) hc_X3_readsOne dX3_readsOne_102 rfl ?_
    obtain ⟨rfl, rfl⟩ := ret_of e
    exact v_ret hc_X3_readsOne rfl dX3_readsOne_189 rfl rfl
  rcases ite_cs e with ⟨n46, e⟩ | ⟨n46, e⟩
  · refine v_tbl (off := 114) (pt := 118) hc_X3_readsOne dX3_readsOne_4 rfl rfl (by rw [n46]; rfl) rfl ?_
    refine v_aload_n (pc' := 119) hc_X3_readsOne dX3_readsOne_118 rfl rfl 0 rfl ?_
    refine v_iconst (pc' := 120) (v := 2) hc_X3_readsOne dX3_readsOne_119 rfl rfl ?_
    refine v_ldcwS (pc' := 123) (tx := "strip") (j := 109) hc_X3_readsOne ho_X3_readsOne (by decide +kernel) dX3_readsOne_120 rfl e (fun v41 _ e => ?_)
    refine v_iconst (pc' := 124) (v := 1) hc_X3_readsOne dX3_readsOne_123 rfl rfl ?_
    refine v_iconst (pc' := 125) (v := 1) hc_X3_readsOne dX3_readsOne_124 rfl rfl ?_
    obtain ⟨c42, e⟩ := gd_of e
    obtain ⟨r43, h44, e45, e⟩ := bd2_of e
    refine k_V (pc' := 128) (ci := 2) (n := 4) hc_X3_readsOne ho_X3_readsOne rfl c42 (w_X3_command D l hl x0 (2 : Int32) v41 (1 : Int32) (1 : Int32) h3 e45) (wA_l q2632) q2634 (wA_l qs70) q85 q2635 hy_332 ⟨Nat.le_of_ble_eq_true rfl, Nat.le_of_ble_eq_true rfl⟩ rfl rfl (Nat.le_of_ble_eq_true rfl) dX3_readsOne_125 rfl (kU ?_) kN
    refine v_goto (pt := 189) hc_X3_readsOne dX3_readsOne_128 rfl ?_
    obtain ⟨rfl, rfl⟩ := ret_of e
    exact v_ret hc_X3_readsOne rfl dX3_readsOne_189 rfl rfl
  refine v_tbl (off := 180) (pt := 184) hc_X3_readsOne dX3_readsOne_4 rfl rfl (lk_c (lk_n n10 rfl) (lk_c (lk_n n16 rfl) (lk_d (lk_d (lk_c (lk_n n22 rfl) (lk_d (lk_c (lk_n n28 rfl) (lk_d (lk_d (lk_d (lk_d (lk_c (lk_n n34 rfl) (lk_d (lk_d (lk_c (lk_n n40 rfl) (lk_d (lk_d (lk_c (lk_n n46 rfl) lk_z)))))))))))))))))) rfl ?_
  refine v_aload_n (pc' := 185) hc_X3_readsOne dX3_readsOne_184 rfl rfl 0 rfl ?_
  refine v_iconst (pc' := 186) (v := 1) hc_X3_readsOne dX3_readsOne_185 rfl rfl ?_
  refine v_pf (pc' := 189) hc_X3_readsOne ho_X3_readsOne KX3 23 (Nat.le_of_ble_eq_true rfl) q2265 (Or.inl rfl) rfl dX3_readsOne_186 rfl rfl rfl e (fun h47 _ e => ?_)
  obtain ⟨rfl, rfl⟩ := ret_of e
  exact v_ret hc_X3_readsOne rfl dX3_readsOne_189 rfl rfl
theorem w_X3_readsOne (D : va_G) (l : Launch) (hl : l.stackTraces = false) (x0 : Nat) (h : AH) {r : Unit} {hF : AH} (e : f_X3_readsOne x0 h = some (r, hF)) : MetV D l yX3_readsOne (Cond.code yX3_readsOne cX3_readsOne 1 (Option.none : Option FieldType)) 7 179 [.ref x0] h hF (oV r) :=
  met_ofF (by decide +kernel) hl (Nat.le_of_ble_eq_true rfl) rfl (v_X3_readsOne D l hl [.ref x0] h x0 h e)
/-! BlockPapersModel.does(I)I  -/
abbrev G_X3_does (D : va_G) (l : Launch) (as : List Value) (h0 hF : AH) (o : Out) : CT := (D, l, (yX3_does.cls, yX3_does, cX3_does, 5, (Option.some .int), 9, 236, []), as, h0, hF, o)
theorem hc_X3_does {D : va_G} {l : Launch} {as : List Value} {h0 hF : AH} {o : Out} : gC (G_X3_does D l as h0 hF o) = cX3_does := rfl
theorem ho_X3_does {D : va_G} {l : Launch} {as : List Value} {h0 hF : AH} {o : Out} : gO (G_X3_does D l as h0 hF o) = "BlockPapersModel" := rfl
theorem hp_X3_does {D : va_G} {l : Launch} {as : List Value} {h0 hF : AH} {o : Out} (pc : Nat) : ∀ z ∈ tableOf (gHd (G_X3_does D l as h0 hF o)), covers z pc = false := hpN
def f_X3_does (x0 : Nat) (x1 : Int32) (h : AH) : Option (Int32 × AH) :=
  bd (gtR h 2 x0 9) fun v1 =>
  bd (ldI h 0 v1 (((4 : Int32) * x1) + (1 : Int32))) fun v2 =>
  bd (gtR h 2 x0 9) fun v3 =>
  bd (ldI h 0 v3 (((4 : Int32) * x1) + (2 : Int32))) fun v4 =>
  bd (gtR h 2 x0 9) fun v5 =>
  bd (ldI h 0 v5 (((4 : Int32) * x1) + (3 : Int32))) fun v6 =>
  bd (gtR h 2 x0 9) fun v7 =>
  bd (ldI h 0 v7 ((4 : Int32) * x1)) fun v8 =>
  if v8 = 0 then (
    gd (isC h 2 x0) <|
    bd2 (f_X3_isBlock x0 v2 h) fun r10 h11 =>
    if r10 = 0 then (
      some ((-1 : Int32), h11)
    ) else (
      gd (isC h11 2 x0) <|
      bd2 (f_X3_isInk x0 v4 h11) fun r14 h15 =>
      if r14 = 0 then (
        some ((-1 : Int32), h15)
      ) else (
        bd2 (f_X3_in v6 (100 : Int32) (1000 : Int32) h15) fun r17 h18 =>
        if r17 = 0 then (
          some ((-1 : Int32), h18)
        ) else (
          gd (isC h18 2 x0) <|
          bd2 (f_X3_prints x0 v2 v4 v6 h18) fun r21 h22 =>
          some (r21, h22)
        )
      )
    )
  ) else (
  if v8 = 1 then (
    gd (isC h 2 x0) <|
    bd2 (f_X3_isRoom x0 v2 h) fun r26 h27 =>
    if r26 = 0 then (
      some ((-1 : Int32), h27)
    ) else (
      gd (isC h27 2 x0) <|
      bd2 (f_X3_isRoll x0 v4 h27) fun r30 h31 =>
      if r30 = 0 then (
        some ((-1 : Int32), h31)
      ) else (
        gd (isC h31 2 x0) <|
        bd2 (f_X3_hangs x0 v2 v4 h31) fun r34 h35 =>
        some (r34, h35)
      )
    )
  ) else (
  if v8 = 2 then (
    gd (isC h 2 x0) <|
    bd2 (f_X3_isRoom x0 v2 h) fun r39 h40 =>
    if r39 = 0 then (
      some ((-1 : Int32), h40)
    ) else (
      gd (isC h40 2 x0) <|
      bd2 (f_X3_strips x0 v2 h40) fun r43 h44 =>
      some (r43, h44)
    )
  ) else (
  if v8 = 3 then (
    gd (isC h 2 x0) <|
    bd2 (f_X3_isRoll x0 v2 h) fun r48 h49 =>
    if r48 = 0 then (
      some ((-1 : Int32), h49)
    ) else (
      gd (isC h49 2 x0) <|
      bd2 (f_X3_givesBack x0 v2 h49) fun r52 h53 =>
      some (r52, h53)
    )
  ) else (
  if v8 = 4 then (
    gd (isC h 2 x0) <|
    bd2 (f_X3_isRoom x0 v2 h) fun r57 h58 =>
    if r57 = 0 then (
      some ((-1 : Int32), h58)
    ) else (
      gd (isC h58 2 x0) <|
      bd2 (f_X3_finishes x0 v2 h58) fun r61 h62 =>
      some (r61, h62)
    )
  ) else (
  if v8 = 5 then (
    gd (isC h 2 x0) <|
    bd2 (f_X3_isBlock x0 v2 h) fun r66 h67 =>
    if r66 = 0 then (
      some ((-1 : Int32), h67)
    ) else (
      gd (isC h67 2 x0) <|
      bd2 (f_X3_carves x0 v2 h67) fun r70 h71 =>
      some (r70, h71)
    )
  ) else (
  gd (isC h 2 x0) <|
  bd2 (f_X3_isInk x0 v2 h) fun r75 h76 =>
  if r75 = 0 then (
    some ((-1 : Int32), h76)
  ) else (
    gd (isC h76 2 x0) <|
    bd2 (f_X3_isInk x0 v4 h76) fun r79 h80 =>
    if r79 = 0 then (
      some ((-1 : Int32), h80)
    ) else (
      if v2 = v4 then (
        some ((-1 : Int32), h80)
      ) else (
        bd2 (f_X3_in v6 (1 : Int32) (999 : Int32) h80) fun r82 h83 =>
        if r82 = 0 then (
          some ((-1 : Int32), h83)
        ) else (
          gd (isC h83 2 x0) <|
          bd2 (f_X3_mixes x0 v2 v4 v6 h83) fun r86 h87 =>
          some (r86, h87)
        )
      )
    )
  )
  ))))))
theorem v_X3_does (D : va_G) (l : Launch) (hl : l.stackTraces = false) (as : List Value) (h0 : AH) {r : Int32} {hF : AH} (x0 : Nat) (x1 : Int32) (h : AH) (e : f_X3_does x0 x1 h = some (r, hF)) : V (G_X3_does D l as h0 hF (oI r)) h 0 [(0, .ref x0), (1, .int x1)] [] := by
  unfold f_X3_does at e
  refine v_aload_n (pc' := 1) hc_X3_does dX3_does_0 rfl rfl 0 rfl ?_
  refine v_gfR (pc' := 4) hc_X3_does ho_X3_does KX3 9 (Nat.le_of_ble_eq_true rfl) q2251 (Or.inl rfl) dX3_does_1 rfl e (fun v1 _ e => ?_)
  refine v_iconst (pc' := 5) (v := 4) hc_X3_does dX3_does_4 rfl rfl ?_
  refine v_iload_n (pc' := 6) hc_X3_does dX3_does_5 rfl rfl 1 rfl ?_
  refine v_imul (pc' := 7) hc_X3_does dX3_does_6 rfl ?_
  refine v_iconst (pc' := 8) (v := 1) hc_X3_does dX3_does_7 rfl rfl ?_
  refine v_iadd (pc' := 9) hc_X3_does dX3_does_8 rfl ?_
  refine v_iald (pc' := 10) hc_X3_does dX3_does_9 rfl e (fun v2 _ e => ?_)
  refine v_istore_n (pc' := 11) (lv' := [(2, .int v2), (0, .ref x0), (1, .int x1)]) hc_X3_does dX3_does_10 rfl rfl (Nat.le_of_ble_eq_true rfl) rfl ?_
  refine v_aload_n (pc' := 12) hc_X3_does dX3_does_11 rfl rfl 1 rfl ?_
  refine v_gfR (pc' := 15) hc_X3_does ho_X3_does KX3 9 (Nat.le_of_ble_eq_true rfl) q2251 (Or.inl rfl) dX3_does_12 rfl e (fun v3 _ e => ?_)
  refine v_iconst (pc' := 16) (v := 4) hc_X3_does dX3_does_15 rfl rfl ?_
  refine v_iload_n (pc' := 17) hc_X3_does dX3_does_16 rfl rfl 2 rfl ?_
  refine v_imul (pc' := 18) hc_X3_does dX3_does_17 rfl ?_
  refine v_iconst (pc' := 19) (v := 2) hc_X3_does dX3_does_18 rfl rfl ?_
  refine v_iadd (pc' := 20) hc_X3_does dX3_does_19 rfl ?_
  refine v_iald (pc' := 21) hc_X3_does dX3_does_20 rfl e (fun v4 _ e => ?_)
  refine v_istore_n (pc' := 22) (lv' := [(3, .int v4), (2, .int v2), (0, .ref x0), (1, .int x1)]) hc_X3_does dX3_does_21 rfl rfl (Nat.le_of_ble_eq_true rfl) rfl ?_
  refine v_aload_n (pc' := 23) hc_X3_does dX3_does_22 rfl rfl 2 rfl ?_
  refine v_gfR (pc' := 26) hc_X3_does ho_X3_does KX3 9 (Nat.le_of_ble_eq_true rfl) q2251 (Or.inl rfl) dX3_does_23 rfl e (fun v5 _ e => ?_)
  refine v_iconst (pc' := 27) (v := 4) hc_X3_does dX3_does_26 rfl rfl ?_
  refine v_iload_n (pc' := 28) hc_X3_does dX3_does_27 rfl rfl 3 rfl ?_
  refine v_imul (pc' := 29) hc_X3_does dX3_does_28 rfl ?_
  refine v_iconst (pc' := 30) (v := 3) hc_X3_does dX3_does_29 rfl rfl ?_
  refine v_iadd (pc' := 31) hc_X3_does dX3_does_30 rfl ?_
  refine v_iald (pc' := 32) hc_X3_does dX3_does_31 rfl e (fun v6 _ e => ?_)
  refine v_istore (pc' := 34) (lv' := [(4, .int v6), (3, .int v4), (2, .int v2), (0, .ref x0), (1, .int x1)]) hc_X3_does dX3_does_32 rfl (Nat.le_of_ble_eq_true rfl) rfl ?_
  refine v_aload_n (pc' := 35) hc_X3_does dX3_does_34 rfl rfl 3 rfl ?_
  refine v_gfR (pc' := 38) hc_X3_does ho_X3_does KX3 9 (Nat.le_of_ble_eq_true rfl) q2251 (Or.inl rfl) dX3_does_35 rfl e (fun v7 _ e => ?_)
  refine v_iconst (pc' := 39) (v := 4) hc_X3_does dX3_does_38 rfl rfl ?_
  refine v_iload_n (pc' := 40) hc_X3_does dX3_does_39 rfl rfl 4 rfl ?_
  refine v_imul (pc' := 41) hc_X3_does dX3_does_40 rfl ?_
  refine v_iald (pc' := 42) hc_X3_does dX3_does_41 rfl e (fun v8 _ e => ?_)
  rcases ite_cs e with ⟨n24, e⟩ | ⟨n24, e⟩
  · refine v_tbl (off := 38) (pt := 80) hc_X3_does dX3_does_42 rfl rfl (by rw [n24]; rfl) rfl ?_
    refine v_aload_n (pc' := 81) hc_X3_does dX3_does_80 rfl rfl 3 rfl ?_
    refine v_iload_n (pc' := 82) hc_X3_does dX3_does_81 rfl rfl 2 rfl ?_
    obtain ⟨c9, e⟩ := gd_of e
    obtain ⟨r10, h11, e12, e⟩ := bd2_of e
    refine k_V (pc' := 85) (ci := 2) (n := 1) hc_X3_does ho_X3_does rfl c9 (w_X3_isBlock D l hl x0 v2 h e12) (wA_l q2359) q2361 (wA_l qs31) q85 q2362 hy_130 ⟨Nat.le_of_ble_eq_true rfl, Nat.le_of_ble_eq_true rfl⟩ rfl rfl (Nat.le_of_ble_eq_true rfl) dX3_does_82 rfl (kS ?_) kN
    refine v_if_eq (pt := 120) (pf := 88) hc_X3_does dX3_does_85 rfl rfl e (fun _ e => ?_) (fun _ e => ?_)
    · refine v_iconst (pc' := 121) (v := (-1)) hc_X3_does dX3_does_120 rfl rfl ?_
      obtain ⟨rfl, rfl⟩ := ret_of e
      exact v_iret hc_X3_does rfl dX3_does_121 rfl rfl
    · refine v_aload_n (pc' := 89) hc_X3_does dX3_does_88 rfl rfl 3 rfl ?_
      refine v_iload_n (pc' := 90) hc_X3_does dX3_does_89 rfl rfl 1 rfl ?_
      obtain ⟨c13, e⟩ := gd_of e
      obtain ⟨r14, h15, e16, e⟩ := bd2_of e
      refine k_V (pc' := 93) (ci := 2) (n := 1) hc_X3_does ho_X3_does rfl c13 (w_X3_isInk D l hl x0 v4 h11 e16) (wA_l q2387) q2389 (wA_l qs35) q85 q2390 hy_144 ⟨Nat.le_of_ble_eq_true rfl, Nat.le_of_ble_eq_true rfl⟩ rfl rfl (Nat.le_of_ble_eq_true rfl) dX3_does_90 rfl (kS ?_) kN
      refine v_if_eq (pt := 120) (pf := 96) hc_X3_does dX3_does_93 rfl rfl e (fun _ e => ?_) (fun _ e => ?_)
      · refine v_iconst (pc' := 121) (v := (-1)) hc_X3_does dX3_does_120 rfl rfl ?_
        obtain ⟨rfl, rfl⟩ := ret_of e
        exact v_iret hc_X3_does rfl dX3_does_121 rfl rfl
      · refine v_iload (pc' := 98) hc_X3_does dX3_does_96 rfl 0 rfl ?_
        refine v_bipush (pc' := 100) (v := 100) hc_X3_does dX3_does_98 rfl rfl ?_
        refine v_sipush (pc' := 103) (v := 1000) hc_X3_does dX3_does_100 rfl rfl ?_
        obtain ⟨r17, h18, e19, e⟩ := bd2_of e
        refine k_S (pc' := 106) (n := 3) hc_X3_does ho_X3_does (w_X3_in D l hl v6 (100 : Int32) (1000 : Int32) h15 e19) (wA_l q2328) q2329 q85 q2330 hy_118 ⟨Nat.le_of_ble_eq_true rfl, Nat.le_of_ble_eq_true rfl⟩ rfl rfl (Nat.le_of_ble_eq_true rfl) dX3_does_103 rfl (kS ?_) kN
        refine v_if_eq (pt := 120) (pf := 109) hc_X3_does dX3_does_106 rfl rfl e (fun _ e => ?_) (fun _ e => ?_)
        · refine v_iconst (pc' := 121) (v := (-1)) hc_X3_does dX3_does_120 rfl rfl ?_
          obtain ⟨rfl, rfl⟩ := ret_of e
          exact v_iret hc_X3_does rfl dX3_does_121 rfl rfl
        · refine v_aload_n (pc' := 110) hc_X3_does dX3_does_109 rfl rfl 3 rfl ?_
          refine v_iload_n (pc' := 111) hc_X3_does dX3_does_110 rfl rfl 2 rfl ?_
          refine v_iload_n (pc' := 112) hc_X3_does dX3_does_111 rfl rfl 1 rfl ?_
          refine v_iload (pc' := 114) hc_X3_does dX3_does_112 rfl 0 rfl ?_
          obtain ⟨c20, e⟩ := gd_of e
          obtain ⟨r21, h22, e23, e⟩ := bd2_of e
          refine k_V (pc' := 117) (ci := 2) (n := 3) hc_X3_does ho_X3_does rfl c20 (w_X3_prints D l hl x0 v2 v4 v6 h18 e23) (wA_l q2407) q2409 (wA_l qs38) q85 q2410 hy_153 ⟨Nat.le_of_ble_eq_true rfl, Nat.le_of_ble_eq_true rfl⟩ rfl rfl (Nat.le_of_ble_eq_true rfl) dX3_does_114 rfl (kS ?_) kN
          refine v_goto (pt := 121) hc_X3_does dX3_does_117 rfl ?_
          obtain ⟨rfl, rfl⟩ := ret_of e
          exact v_iret hc_X3_does rfl dX3_does_121 rfl rfl
  rcases ite_cs e with ⟨n37, e⟩ | ⟨n37, e⟩
  · refine v_tbl (off := 80) (pt := 122) hc_X3_does dX3_does_42 rfl rfl (by rw [n37]; rfl) rfl ?_
    refine v_aload_n (pc' := 123) hc_X3_does dX3_does_122 rfl rfl 3 rfl ?_
    refine v_iload_n (pc' := 124) hc_X3_does dX3_does_123 rfl rfl 2 rfl ?_
    obtain ⟨c25, e⟩ := gd_of e
    obtain ⟨r26, h27, e28, e⟩ := bd2_of e
    refine k_V (pc' := 127) (ci := 2) (n := 1) hc_X3_does ho_X3_does rfl c25 (w_X3_isRoom D l hl x0 v2 h e28) (wA_l q2470) q2472 (wA_l qs49) q85 q2473 hy_184 ⟨Nat.le_of_ble_eq_true rfl, Nat.le_of_ble_eq_true rfl⟩ rfl rfl (Nat.le_of_ble_eq_true rfl) dX3_does_124 rfl (kS ?_) kN
    refine v_if_eq (pt := 147) (pf := 130) hc_X3_does dX3_does_127 rfl rfl e (fun _ e => ?_) (fun _ e => ?_)
    · refine v_iconst (pc' := 148) (v := (-1)) hc_X3_does dX3_does_147 rfl rfl ?_
      obtain ⟨rfl, rfl⟩ := ret_of e
      exact v_iret hc_X3_does rfl dX3_does_148 rfl rfl
    · refine v_aload_n (pc' := 131) hc_X3_does dX3_does_130 rfl rfl 3 rfl ?_
      refine v_iload_n (pc' := 132) hc_X3_does dX3_does_131 rfl rfl 1 rfl ?_
      obtain ⟨c29, e⟩ := gd_of e
      obtain ⟨r30, h31, e32, e⟩ := bd2_of e
      refine k_V (pc' := 135) (ci := 2) (n := 1) hc_X3_does ho_X3_does rfl c29 (w_X3_isRoll D l hl x0 v4 h27 e32) (wA_l q2415) q2417 (wA_l qs39) q85 q2418 hy_164 ⟨Nat.le_of_ble_eq_true rfl, Nat.le_of_ble_eq_true rfl⟩ rfl rfl (Nat.le_of_ble_eq_true rfl) dX3_does_132 rfl (kS ?_) kN
      refine v_if_eq (pt := 147) (pf := 138) hc_X3_does dX3_does_135 rfl rfl e (fun _ e => ?_) (fun _ e => ?_)
      · refine v_iconst (pc' := 148) (v := (-1)) hc_X3_does dX3_does_147 rfl rfl ?_
        obtain ⟨rfl, rfl⟩ := ret_of e
        exact v_iret hc_X3_does rfl dX3_does_148 rfl rfl
      · refine v_aload_n (pc' := 139) hc_X3_does dX3_does_138 rfl rfl 3 rfl ?_
        refine v_iload_n (pc' := 140) hc_X3_does dX3_does_139 rfl rfl 2 rfl ?_
        refine v_iload_n (pc' := 141) hc_X3_does dX3_does_140 rfl rfl 1 rfl ?_
        obtain ⟨c33, e⟩ := gd_of e
        obtain ⟨r34, h35, e36, e⟩ := bd2_of e
        refine k_V (pc' := 144) (ci := 2) (n := 2) hc_X3_does ho_X3_does rfl c33 (w_X3_hangs D l hl x0 v2 v4 h31 e36) (wA_l q2494) q2496 (wA_l qs53) q85 q2497 hy_196 ⟨Nat.le_of_ble_eq_true rfl, Nat.le_of_ble_eq_true rfl⟩ rfl rfl (Nat.le_of_ble_eq_true rfl) dX3_does_141 rfl (kS ?_) kN
        refine v_goto (pt := 148) hc_X3_does dX3_does_144 rfl ?_
        obtain ⟨rfl, rfl⟩ := ret_of e
        exact v_iret hc_X3_does rfl dX3_does_148 rfl rfl
  rcases ite_cs e with ⟨n46, e⟩ | ⟨n46, e⟩
  · refine v_tbl (off := 107) (pt := 149) hc_X3_does dX3_does_42 rfl rfl (by rw [n46]; rfl) rfl ?_
    refine v_aload_n (pc' := 150) hc_X3_does dX3_does_149 rfl rfl 3 rfl ?_
    refine v_iload_n (pc' := 151) hc_X3_does dX3_does_150 rfl rfl 2 rfl ?_
    obtain ⟨c38, e⟩ := gd_of e
    obtain ⟨r39, h40, e41, e⟩ := bd2_of e
    refine k_V (pc' := 154) (ci := 2) (n := 1) hc_X3_does ho_X3_does rfl c38 (w_X3_isRoom D l hl x0 v2 h e41) (wA_l q2470) q2472 (wA_l qs49) q85 q2473 hy_184 ⟨Nat.le_of_ble_eq_true rfl, Nat.le_of_ble_eq_true rfl⟩ rfl rfl (Nat.le_of_ble_eq_true rfl) dX3_does_151 rfl (kS ?_) kN
    refine v_if_eq (pt := 165) (pf := 157) hc_X3_does dX3_does_154 rfl rfl e (fun _ e => ?_) (fun _ e => ?_)
    · refine v_iconst (pc' := 166) (v := (-1)) hc_X3_does dX3_does_165 rfl rfl ?_
      obtain ⟨rfl, rfl⟩ := ret_of e
      exact v_iret hc_X3_does rfl dX3_does_166 rfl rfl
    · refine v_aload_n (pc' := 158) hc_X3_does dX3_does_157 rfl rfl 3 rfl ?_
      refine v_iload_n (pc' := 159) hc_X3_does dX3_does_158 rfl rfl 2 rfl ?_
      obtain ⟨c42, e⟩ := gd_of e
      obtain ⟨r43, h44, e45, e⟩ := bd2_of e
      refine k_V (pc' := 162) (ci := 2) (n := 1) hc_X3_does ho_X3_does rfl c42 (w_X3_strips D l hl x0 v2 h40 e45) (wA_l q2514) q2516 (wA_l qs56) q85 q2517 hy_203 ⟨Nat.le_of_ble_eq_true rfl, Nat.le_of_ble_eq_true rfl⟩ rfl rfl (Nat.le_of_ble_eq_true rfl) dX3_does_159 rfl (kS ?_) kN
      refine v_goto (pt := 166) hc_X3_does dX3_does_162 rfl ?_
      obtain ⟨rfl, rfl⟩ := ret_of e
      exact v_iret hc_X3_does rfl dX3_does_166 rfl rfl
  rcases ite_cs e with ⟨n55, e⟩ | ⟨n55, e⟩
  · refine v_tbl (off := 125) (pt := 167) hc_X3_does dX3_does_42 rfl rfl (by rw [n55]; rfl) rfl ?_
    refine v_aload_n (pc' := 168) hc_X3_does dX3_does_167 rfl rfl 3 rfl ?_
    refine v_iload_n (pc' := 169) hc_X3_does dX3_does_168 rfl rfl 2 rfl ?_
    obtain ⟨c47, e⟩ := gd_of e
    obtain ⟨r48, h49, e50, e⟩ := bd2_of e
    refine k_V (pc' := 172) (ci := 2) (n := 1) hc_X3_does ho_X3_does rfl c47 (w_X3_isRoll D l hl x0 v2 h e50) (wA_l q2415) q2417 (wA_l qs39) q85 q2418 hy_164 ⟨Nat.le_of_ble_eq_true rfl, Nat.le_of_ble_eq_true rfl⟩ rfl rfl (Nat.le_of_ble_eq_true rfl) dX3_does_169 rfl (kS ?_) kN
    refine v_if_eq (pt := 183) (pf := 175) hc_X3_does dX3_does_172 rfl rfl e (fun _ e => ?_) (fun _ e => ?_)
    · refine v_iconst (pc' := 184) (v := (-1)) hc_X3_does dX3_does_183 rfl rfl ?_
      obtain ⟨rfl, rfl⟩ := ret_of e
      exact v_iret hc_X3_does rfl dX3_does_184 rfl rfl
    · refine v_aload_n (pc' := 176) hc_X3_does dX3_does_175 rfl rfl 3 rfl ?_
      refine v_iload_n (pc' := 177) hc_X3_does dX3_does_176 rfl rfl 2 rfl ?_
      obtain ⟨c51, e⟩ := gd_of e
      obtain ⟨r52, h53, e54, e⟩ := bd2_of e
      refine k_V (pc' := 180) (ci := 2) (n := 1) hc_X3_does ho_X3_does rfl c51 (w_X3_givesBack D l hl x0 v2 h49 e54) (wA_l q2446) q2448 (wA_l qs45) q85 q2449 hy_176 ⟨Nat.le_of_ble_eq_true rfl, Nat.le_of_ble_eq_true rfl⟩ rfl rfl (Nat.le_of_ble_eq_true rfl) dX3_does_177 rfl (kS ?_) kN
      refine v_goto (pt := 184) hc_X3_does dX3_does_180 rfl ?_
      obtain ⟨rfl, rfl⟩ := ret_of e
      exact v_iret hc_X3_does rfl dX3_does_184 rfl rfl
  rcases ite_cs e with ⟨n64, e⟩ | ⟨n64, e⟩
  · refine v_tbl (off := 143) (pt := 185) hc_X3_does dX3_does_42 rfl rfl (by rw [n64]; rfl) rfl ?_
    refine v_aload_n (pc' := 186) hc_X3_does dX3_does_185 rfl rfl 3 rfl ?_
    refine v_iload_n (pc' := 187) hc_X3_does dX3_does_186 rfl rfl 2 rfl ?_
    obtain ⟨c56, e⟩ := gd_of e
    obtain ⟨r57, h58, e59, e⟩ := bd2_of e
    refine k_V (pc' := 190) (ci := 2) (n := 1) hc_X3_does ho_X3_does rfl c56 (w_X3_isRoom D l hl x0 v2 h e59) (wA_l q2470) q2472 (wA_l qs49) q85 q2473 hy_184 ⟨Nat.le_of_ble_eq_true rfl, Nat.le_of_ble_eq_true rfl⟩ rfl rfl (Nat.le_of_ble_eq_true rfl) dX3_does_187 rfl (kS ?_) kN
    refine v_if_eq (pt := 201) (pf := 193) hc_X3_does dX3_does_190 rfl rfl e (fun _ e => ?_) (fun _ e => ?_)
    · refine v_iconst (pc' := 202) (v := (-1)) hc_X3_does dX3_does_201 rfl rfl ?_
      obtain ⟨rfl, rfl⟩ := ret_of e
      exact v_iret hc_X3_does rfl dX3_does_202 rfl rfl
    · refine v_aload_n (pc' := 194) hc_X3_does dX3_does_193 rfl rfl 3 rfl ?_
      refine v_iload_n (pc' := 195) hc_X3_does dX3_does_194 rfl rfl 2 rfl ?_
      obtain ⟨c60, e⟩ := gd_of e
      obtain ⟨r61, h62, e63, e⟩ := bd2_of e
      refine k_V (pc' := 198) (ci := 2) (n := 1) hc_X3_does ho_X3_does rfl c60 (w_X3_finishes D l hl x0 v2 h58 e63) (wA_l q2534) q2536 (wA_l qs58) q85 q2537 hy_214 ⟨Nat.le_of_ble_eq_true rfl, Nat.le_of_ble_eq_true rfl⟩ rfl rfl (Nat.le_of_ble_eq_true rfl) dX3_does_195 rfl (kS ?_) kN
      refine v_goto (pt := 202) hc_X3_does dX3_does_198 rfl ?_
      obtain ⟨rfl, rfl⟩ := ret_of e
      exact v_iret hc_X3_does rfl dX3_does_202 rfl rfl
  rcases ite_cs e with ⟨n73, e⟩ | ⟨n73, e⟩
  · refine v_tbl (off := 161) (pt := 203) hc_X3_does dX3_does_42 rfl rfl (by rw [n73]; rfl) rfl ?_
    refine v_aload_n (pc' := 204) hc_X3_does dX3_does_203 rfl rfl 3 rfl ?_
    refine v_iload_n (pc' := 205) hc_X3_does dX3_does_204 rfl rfl 2 rfl ?_
    obtain ⟨c65, e⟩ := gd_of e
    obtain ⟨r66, h67, e68, e⟩ := bd2_of e
    refine k_V (pc' := 208) (ci := 2) (n := 1) hc_X3_does ho_X3_does rfl c65 (w_X3_isBlock D l hl x0 v2 h e68) (wA_l q2359) q2361 (wA_l qs31) q85 q2362 hy_130 ⟨Nat.le_of_ble_eq_true rfl, Nat.le_of_ble_eq_true rfl⟩ rfl rfl (Nat.le_of_ble_eq_true rfl) dX3_does_205 rfl (kS ?_) kN
    refine v_if_eq (pt := 219) (pf := 211) hc_X3_does dX3_does_208 rfl rfl e (fun _ e => ?_) (fun _ e => ?_)
    · refine v_iconst (pc' := 220) (v := (-1)) hc_X3_does dX3_does_219 rfl rfl ?_
      obtain ⟨rfl, rfl⟩ := ret_of e
      exact v_iret hc_X3_does rfl dX3_does_220 rfl rfl
    · refine v_aload_n (pc' := 212) hc_X3_does dX3_does_211 rfl rfl 3 rfl ?_
      refine v_iload_n (pc' := 213) hc_X3_does dX3_does_212 rfl rfl 2 rfl ?_
      obtain ⟨c69, e⟩ := gd_of e
      obtain ⟨r70, h71, e72, e⟩ := bd2_of e
      refine k_V (pc' := 216) (ci := 2) (n := 1) hc_X3_does ho_X3_does rfl c69 (w_X3_carves D l hl x0 v2 h67 e72) (wA_l q2371) q2373 (wA_l qs33) q85 q2374 hy_136 ⟨Nat.le_of_ble_eq_true rfl, Nat.le_of_ble_eq_true rfl⟩ rfl rfl (Nat.le_of_ble_eq_true rfl) dX3_does_213 rfl (kS ?_) kN
      refine v_goto (pt := 220) hc_X3_does dX3_does_216 rfl ?_
      obtain ⟨rfl, rfl⟩ := ret_of e
      exact v_iret hc_X3_does rfl dX3_does_220 rfl rfl
  refine v_tbl (off := 179) (pt := 221) hc_X3_does dX3_does_42 rfl rfl (lk_c (lk_n n24 rfl) (lk_c (lk_n n37 rfl) (lk_c (lk_n n46 rfl) (lk_c (lk_n n55 rfl) (lk_c (lk_n n64 rfl) (lk_c (lk_n n73 rfl) lk_z)))))) rfl ?_
  refine v_aload_n (pc' := 222) hc_X3_does dX3_does_221 rfl rfl 3 rfl ?_
  refine v_iload_n (pc' := 223) hc_X3_does dX3_does_222 rfl rfl 2 rfl ?_
  obtain ⟨c74, e⟩ := gd_of e
  obtain ⟨r75, h76, e77, e⟩ := bd2_of e
  refine k_V (pc' := 226) (ci := 2) (n := 1) hc_X3_does ho_X3_does rfl c74 (w_X3_isInk D l hl x0 v2 h e77) (wA_l q2387) q2389 (wA_l qs35) q85 q2390 hy_144 ⟨Nat.le_of_ble_eq_true rfl, Nat.le_of_ble_eq_true rfl⟩ rfl rfl (Nat.le_of_ble_eq_true rfl) dX3_does_223 rfl (kS ?_) kN
  refine v_if_eq (pt := 265) (pf := 229) hc_X3_does dX3_does_226 rfl rfl e (fun _ e => ?_) (fun _ e => ?_)
  · refine v_iconst (pc' := 266) (v := (-1)) hc_X3_does dX3_does_265 rfl rfl ?_
    obtain ⟨rfl, rfl⟩ := ret_of e
    exact v_iret hc_X3_does rfl dX3_does_266 rfl rfl
  · refine v_aload_n (pc' := 230) hc_X3_does dX3_does_229 rfl rfl 3 rfl ?_
    refine v_iload_n (pc' := 231) hc_X3_does dX3_does_230 rfl rfl 1 rfl ?_
    obtain ⟨c78, e⟩ := gd_of e
    obtain ⟨r79, h80, e81, e⟩ := bd2_of e
    refine k_V (pc' := 234) (ci := 2) (n := 1) hc_X3_does ho_X3_does rfl c78 (w_X3_isInk D l hl x0 v4 h76 e81) (wA_l q2387) q2389 (wA_l qs35) q85 q2390 hy_144 ⟨Nat.le_of_ble_eq_true rfl, Nat.le_of_ble_eq_true rfl⟩ rfl rfl (Nat.le_of_ble_eq_true rfl) dX3_does_231 rfl (kS ?_) kN
    refine v_if_eq (pt := 265) (pf := 237) hc_X3_does dX3_does_234 rfl rfl e (fun _ e => ?_) (fun _ e => ?_)
    · refine v_iconst (pc' := 266) (v := (-1)) hc_X3_does dX3_does_265 rfl rfl ?_
      obtain ⟨rfl, rfl⟩ := ret_of e
      exact v_iret hc_X3_does rfl dX3_does_266 rfl rfl
    · refine v_iload_n (pc' := 238) hc_X3_does dX3_does_237 rfl rfl 2 rfl ?_
      refine v_iload_n (pc' := 239) hc_X3_does dX3_does_238 rfl rfl 1 rfl ?_
      refine v_icmp_eq (pt := 265) (pf := 242) hc_X3_does dX3_does_239 rfl rfl e (fun _ e => ?_) (fun _ e => ?_)
      · refine v_iconst (pc' := 266) (v := (-1)) hc_X3_does dX3_does_265 rfl rfl ?_
        obtain ⟨rfl, rfl⟩ := ret_of e
        exact v_iret hc_X3_does rfl dX3_does_266 rfl rfl
      · refine v_iload (pc' := 244) hc_X3_does dX3_does_242 rfl 0 rfl ?_
        refine v_iconst (pc' := 245) (v := 1) hc_X3_does dX3_does_244 rfl rfl ?_
        refine v_sipush (pc' := 248) (v := 999) hc_X3_does dX3_does_245 rfl rfl ?_
        obtain ⟨r82, h83, e84, e⟩ := bd2_of e
        refine k_S (pc' := 251) (n := 3) hc_X3_does ho_X3_does (w_X3_in D l hl v6 (1 : Int32) (999 : Int32) h80 e84) (wA_l q2328) q2329 q85 q2330 hy_118 ⟨Nat.le_of_ble_eq_true rfl, Nat.le_of_ble_eq_true rfl⟩ rfl rfl (Nat.le_of_ble_eq_true rfl) dX3_does_248 rfl (kS ?_) kN
        refine v_if_eq (pt := 265) (pf := 254) hc_X3_does dX3_does_251 rfl rfl e (fun _ e => ?_) (fun _ e => ?_)
        · refine v_iconst (pc' := 266) (v := (-1)) hc_X3_does dX3_does_265 rfl rfl ?_
          obtain ⟨rfl, rfl⟩ := ret_of e
          exact v_iret hc_X3_does rfl dX3_does_266 rfl rfl
        · refine v_aload_n (pc' := 255) hc_X3_does dX3_does_254 rfl rfl 3 rfl ?_
          refine v_iload_n (pc' := 256) hc_X3_does dX3_does_255 rfl rfl 2 rfl ?_
          refine v_iload_n (pc' := 257) hc_X3_does dX3_does_256 rfl rfl 1 rfl ?_
          refine v_iload (pc' := 259) hc_X3_does dX3_does_257 rfl 0 rfl ?_
          obtain ⟨c85, e⟩ := gd_of e
          obtain ⟨r86, h87, e88, e⟩ := bd2_of e
          refine k_V (pc' := 262) (ci := 2) (n := 3) hc_X3_does ho_X3_does rfl c85 (w_X3_mixes D l hl x0 v2 v4 v6 h83 e88) (wA_l q2399) q2401 (wA_l qs37) q85 q2402 hy_149 ⟨Nat.le_of_ble_eq_true rfl, Nat.le_of_ble_eq_true rfl⟩ rfl rfl (Nat.le_of_ble_eq_true rfl) dX3_does_259 rfl (kS ?_) kN
          refine v_goto (pt := 266) hc_X3_does dX3_does_262 rfl ?_
          obtain ⟨rfl, rfl⟩ := ret_of e
          exact v_iret hc_X3_does rfl dX3_does_266 rfl rfl
theorem w_X3_does (D : va_G) (l : Launch) (hl : l.stackTraces = false) (x0 : Nat) (x1 : Int32) (h : AH) {r : Int32} {hF : AH} (e : f_X3_does x0 x1 h = some (r, hF)) : MetV D l yX3_does (Cond.code yX3_does cX3_does 5 (Option.some .int)) 9 236 [.ref x0, .int x1] h hF (oI r) :=
  met_ofF (by decide +kernel) hl (Nat.le_of_ble_eq_true rfl) rfl (v_X3_does D l hl [.ref x0, .int x1] h x0 x1 h e)
/-! BlockPapersModel.read()I  -/
abbrev G_X3_read (D : va_G) (l : Launch) (as : List Value) (h0 hF : AH) (o : Out) : CT := (D, l, (yX3_read.cls, yX3_read, cX3_read, 4, (Option.some .int), 10, 260, []), as, h0, hF, o)
theorem hc_X3_read {D : va_G} {l : Launch} {as : List Value} {h0 hF : AH} {o : Out} : gC (G_X3_read D l as h0 hF o) = cX3_read := rfl
theorem ho_X3_read {D : va_G} {l : Launch} {as : List Value} {h0 hF : AH} {o : Out} : gO (G_X3_read D l as h0 hF o) = "BlockPapersModel" := rfl
theorem hp_X3_read {D : va_G} {l : Launch} {as : List Value} {h0 hF : AH} {o : Out} (pc : Nat) : ∀ z ∈ tableOf (gHd (G_X3_read D l as h0 hF o)), covers z pc = false := hpN
def fb_X3_read_l128 (rec : Nat → Int32 → Int32 → Int32 → AH → Option (Int32 × AH)) (x0 : Nat) (x1 : Int32) (x2 : Int32) (x3 : Int32) (h : AH) : Option (Int32 × AH) :=
  if (793 : Int32) ≤ x3 then (
    bd (stF h 2 x0 14 (.int (20 : Int32))) fun h1 =>
    bd (stF h1 2 x0 15 (.int x1)) fun h2 =>
    if x2 ≤ 0 then (
      bd (stF h2 2 x0 16 (.int (0 : Int32))) fun h3 =>
      bd (gtI h3 2 x0 18) fun v4 =>
      bd (stF h3 2 x0 17 (.int v4)) fun h5 =>
      gd (isC h5 2 x0) <|
      bd2 (f_X3_fails x0 (2 : Int32) h5) fun r7 h8 =>
      some (r7, h8)
    ) else (
      bd (stF h2 2 x0 16 (.int x2)) fun h10 =>
      bd (gtI h10 2 x0 18) fun v11 =>
      bd (stF h10 2 x0 17 (.int v11)) fun h12 =>
      gd (isC h12 2 x0) <|
      bd2 (f_X3_fails x0 (2 : Int32) h12) fun r14 h15 =>
      some (r14, h15)
    )
  ) else (
    bd (gtR h 2 x0 1) fun v17 =>
    bd (gtR h 2 x0 2) fun v18 =>
    bd (ldI h 0 v18 x3) fun v19 =>
    bd (stI h v17 x3 v19) fun h20 =>
    rec x0 x1 x2 (x3 + 1) h20
  )
def f_X3_read_l128 : Nat → Nat → Int32 → Int32 → Int32 → AH → Option (Int32 × AH)
  | 0 => fun _ _ _ _ _ => none
  | n + 1 => fb_X3_read_l128 (f_X3_read_l128 n) 
theorem w_X3_read_l128 (D : va_G) (l : Launch) (hl : l.stackTraces = false) (as : List Value) (h0 : AH) {r : Int32} {hF : AH} : ∀ (n : Nat) (x0 : Nat) (x1 : Int32) (x2 : Int32) (x3 : Int32) (h : AH), f_X3_read_l128 n x0 x1 x2 x3 h = some (r, hF) → V (G_X3_read D l as h0 hF (oI r)) h 128 [(0, .ref x0), (1, .int x1), (2, .int x2), (3, .int x3)] [] := by
  intro n; induction n with
  | zero => intro x0 x1 x2 x3 h e; exact absurd (show (none : Option (Int32 × AH)) = some _ from e) (fun z => nomatch z)
  | succ n IH =>
    intro x0 x1 x2 x3 h e
    have e : fb_X3_read_l128 (f_X3_read_l128 n) x0 x1 x2 x3 h = some (r, hF) := e
    unfold fb_X3_read_l128 at e
    refine v_iload_n (pc' := 129) hc_X3_read dX3_read_128 rfl rfl 3 rfl ?_
    refine v_sipush (pc' := 132) (v := 793) hc_X3_read dX3_read_129 rfl rfl ?_
    refine v_icmp_ge (pt := 153) (pf := 135) hc_X3_read dX3_read_132 rfl rfl e (fun _ e => ?_) (fun _ e => ?_)
    · refine v_aload_n (pc' := 154) hc_X3_read dX3_read_153 rfl rfl 0 rfl ?_
      refine v_bipush (pc' := 156) (v := 20) hc_X3_read dX3_read_154 rfl rfl ?_
      refine v_pf (pc' := 159) hc_X3_read ho_X3_read KX3 14 (Nat.le_of_ble_eq_true rfl) q2256 (Or.inl rfl) rfl dX3_read_156 rfl rfl rfl e (fun h1 _ e => ?_)
      refine v_aload_n (pc' := 160) hc_X3_read dX3_read_159 rfl rfl 0 rfl ?_
      refine v_iload_n (pc' := 161) hc_X3_read dX3_read_160 rfl rfl 1 rfl ?_
      refine v_pf (pc' := 164) hc_X3_read ho_X3_read KX3 15 (Nat.le_of_ble_eq_true rfl) q2257 (Or.inl rfl) rfl dX3_read_161 rfl rfl rfl e (fun h2 _ e => ?_)
      refine v_aload_n (pc' := 165) hc_X3_read dX3_read_164 rfl rfl 0 rfl ?_
      refine v_iload_n (pc' := 166) hc_X3_read dX3_read_165 rfl rfl 2 rfl ?_
      refine v_if_le (pt := 173) (pf := 169) hc_X3_read dX3_read_166 rfl rfl e (fun _ e => ?_) (fun _ e => ?_)
      · refine v_iconst (pc' := 174) (v := 0) hc_X3_read dX3_read_173 rfl rfl ?_
        refine v_pf (pc' := 177) hc_X3_read ho_X3_read KX3 16 (Nat.le_of_ble_eq_true rfl) q2258 (Or.inl rfl) rfl dX3_read_174 rfl rfl rfl e (fun h3 _ e => ?_)
        refine v_aload_n (pc' := 178) hc_X3_read dX3_read_177 rfl rfl 0 rfl ?_
        refine v_aload_n (pc' := 179) hc_X3_read dX3_read_178 rfl rfl 0 rfl ?_
        refine v_gfI (pc' := 182) hc_X3_read ho_X3_read KX3 18 (Nat.le_of_ble_eq_true rfl) q2260 (Or.inl rfl) dX3_read_179 rfl e (fun v4 _ e => ?_)
        refine v_pf (pc' := 185) hc_X3_read ho_X3_read KX3 17 (Nat.le_of_ble_eq_true rfl) q2259 (Or.inl rfl) rfl dX3_read_182 rfl rfl rfl e (fun h5 _ e => ?_)
        refine v_aload_n (pc' := 186) hc_X3_read dX3_read_185 rfl rfl 0 rfl ?_
        refine v_iconst (pc' := 187) (v := 2) hc_X3_read dX3_read_186 rfl rfl ?_
        obtain ⟨c6, e⟩ := gd_of e
        obtain ⟨r7, h8, e9, e⟩ := bd2_of e
        refine k_V (pc' := 190) (ci := 2) (n := 1) hc_X3_read ho_X3_read rfl c6 (w_X3_fails D l hl x0 (2 : Int32) h5 e9) (wA_l q2351) q2353 (wA_l qs30) q85 q2354 hy_119 ⟨Nat.le_of_ble_eq_true rfl, Nat.le_of_ble_eq_true rfl⟩ rfl rfl (Nat.le_of_ble_eq_true rfl) dX3_read_187 rfl (kS ?_) kN
        obtain ⟨rfl, rfl⟩ := ret_of e
        exact v_iret hc_X3_read rfl dX3_read_190 rfl rfl
      · refine v_iload_n (pc' := 170) hc_X3_read dX3_read_169 rfl rfl 2 rfl ?_
        refine v_goto (pt := 174) hc_X3_read dX3_read_170 rfl ?_
        refine v_pf (pc' := 177) hc_X3_read ho_X3_read KX3 16 (Nat.le_of_ble_eq_true rfl) q2258 (Or.inl rfl) rfl dX3_read_174 rfl rfl rfl e (fun h10 _ e => ?_)
        refine v_aload_n (pc' := 178) hc_X3_read dX3_read_177 rfl rfl 0 rfl ?_
        refine v_aload_n (pc' := 179) hc_X3_read dX3_read_178 rfl rfl 0 rfl ?_
        refine v_gfI (pc' := 182) hc_X3_read ho_X3_read KX3 18 (Nat.le_of_ble_eq_true rfl) q2260 (Or.inl rfl) dX3_read_179 rfl e (fun v11 _ e => ?_)
        refine v_pf (pc' := 185) hc_X3_read ho_X3_read KX3 17 (Nat.le_of_ble_eq_true rfl) q2259 (Or.inl rfl) rfl dX3_read_182 rfl rfl rfl e (fun h12 _ e => ?_)
        refine v_aload_n (pc' := 186) hc_X3_read dX3_read_185 rfl rfl 0 rfl ?_
        refine v_iconst (pc' := 187) (v := 2) hc_X3_read dX3_read_186 rfl rfl ?_
        obtain ⟨c13, e⟩ := gd_of e
        obtain ⟨r14, h15, e16, e⟩ := bd2_of e
        refine k_V (pc' := 190) (ci := 2) (n := 1) hc_X3_read ho_X3_read rfl c13 (w_X3_fails D l hl x0 (2 : Int32) h12 e16) (wA_l q2351) q2353 (wA_l qs30) q85 q2354 hy_119 ⟨Nat.le_of_ble_eq_true rfl, Nat.le_of_ble_eq_true rfl⟩ rfl rfl (Nat.le_of_ble_eq_true rfl) dX3_read_187 rfl (kS ?_) kN
        obtain ⟨rfl, rfl⟩ := ret_of e
        exact v_iret hc_X3_read rfl dX3_read_190 rfl rfl
    · refine v_aload_n (pc' := 136) hc_X3_read dX3_read_135 rfl rfl 0 rfl ?_
      refine v_gfR (pc' := 139) hc_X3_read ho_X3_read KX3 1 (Nat.le_of_ble_eq_true rfl) q2243 (Or.inl rfl) dX3_read_136 rfl e (fun v17 _ e => ?_)
      refine v_iload_n (pc' := 140) hc_X3_read dX3_read_139 rfl rfl 3 rfl ?_
      refine v_aload_n (pc' := 141) hc_X3_read dX3_read_140 rfl rfl 0 rfl ?_
      refine v_gfR (pc' := 144) hc_X3_read ho_X3_read KX3 2 (Nat.le_of_ble_eq_true rfl) q2244 (Or.inl rfl) dX3_read_141 rfl e (fun v18 _ e => ?_)
      refine v_iload_n (pc' := 145) hc_X3_read dX3_read_144 rfl rfl 3 rfl ?_
      refine v_iald (pc' := 146) hc_X3_read dX3_read_145 rfl e (fun v19 _ e => ?_)
      refine v_iast (pc' := 147) hc_X3_read dX3_read_146 rfl e (fun h20 _ e => ?_)
      refine v_iinc (pc' := 150) (lv' := [(3, .int (x3 + 1)), (0, .ref x0), (1, .int x1), (2, .int x2)]) (v := x3 + 1) hc_X3_read dX3_read_147 rfl 3 rfl rfl (Nat.le_of_ble_eq_true rfl) rfl ?_
      refine v_goto (pt := 128) hc_X3_read dX3_read_150 rfl ?_
      refine v_pick [1, 2, 3, 0] rfl ?_
      exact IH x0 x1 x2 (x3 + 1) h20 e
def fb_X3_read_l108 (rec : Nat → Int32 → AH → Option (Int32 × AH)) (x0 : Nat) (x1 : Int32) (h : AH) : Option (Int32 × AH) :=
  bd (gtI h 2 x0 22) fun v1 =>
  if v1 ≤ x1 then (
    bd (gtI h 2 x0 22) fun v2 =>
    gd (isC h 2 x0) <|
    bd2 (f_X3_changed x0 v2 h) fun r4 h5 =>
    some (r4, h5)
  ) else (
    gd (isC h 2 x0) <|
    bd2 (f_X3_does x0 x1 h) fun r8 h9 =>
    if r8 = 0 then (
      rec x0 (x1 + 1) h9
    ) else (
      f_X3_read_l128 NN x0 x1 r8 (0 : Int32) h9
    )
  )
def f_X3_read_l108 : Nat → Nat → Int32 → AH → Option (Int32 × AH)
  | 0 => fun _ _ _ => none
  | n + 1 => fb_X3_read_l108 (f_X3_read_l108 n) 
theorem w_X3_read_l108 (D : va_G) (l : Launch) (hl : l.stackTraces = false) (as : List Value) (h0 : AH) {r : Int32} {hF : AH} : ∀ (n : Nat) (x0 : Nat) (x1 : Int32) (h : AH), f_X3_read_l108 n x0 x1 h = some (r, hF) → V (G_X3_read D l as h0 hF (oI r)) h 108 [(0, .ref x0), (1, .int x1)] [] := by
  intro n; induction n with
  | zero => intro x0 x1 h e; exact absurd (show (none : Option (Int32 × AH)) = some _ from e) (fun z => nomatch z)
  | succ n IH =>
    intro x0 x1 h e
    have e : fb_X3_read_l108 (f_X3_read_l108 n) x0 x1 h = some (r, hF) := e
    unfold fb_X3_read_l108 at e
    refine v_iload_n (pc' := 109) hc_X3_read dX3_read_108 rfl rfl 1 rfl ?_
    refine v_aload_n (pc' := 110) hc_X3_read dX3_read_109 rfl rfl 0 rfl ?_
    refine v_gfI (pc' := 113) hc_X3_read ho_X3_read KX3 22 (Nat.le_of_ble_eq_true rfl) q2264 (Or.inl rfl) dX3_read_110 rfl e (fun v1 _ e => ?_)
    refine v_icmp_ge (pt := 197) (pf := 116) hc_X3_read dX3_read_113 rfl rfl e (fun _ e => ?_) (fun _ e => ?_)
    · refine v_aload_n (pc' := 198) hc_X3_read dX3_read_197 rfl rfl 0 rfl ?_
      refine v_aload_n (pc' := 199) hc_X3_read dX3_read_198 rfl rfl 0 rfl ?_
      refine v_gfI (pc' := 202) hc_X3_read ho_X3_read KX3 22 (Nat.le_of_ble_eq_true rfl) q2264 (Or.inl rfl) dX3_read_199 rfl e (fun v2 _ e => ?_)
      obtain ⟨c3, e⟩ := gd_of e
      obtain ⟨r4, h5, e6, e⟩ := bd2_of e
      refine k_V (pc' := 205) (ci := 2) (n := 1) hc_X3_read ho_X3_read rfl c3 (w_X3_changed D l hl x0 v2 h e6) (wA_l q2347) q2349 (wA_l qs29) q85 q2350 hy_123 ⟨Nat.le_of_ble_eq_true rfl, Nat.le_of_ble_eq_true rfl⟩ rfl rfl (Nat.le_of_ble_eq_true rfl) dX3_read_202 rfl (kS ?_) kN
      obtain ⟨rfl, rfl⟩ := ret_of e
      exact v_iret hc_X3_read rfl dX3_read_205 rfl rfl
    · refine v_aload_n (pc' := 117) hc_X3_read dX3_read_116 rfl rfl 0 rfl ?_
      refine v_iload_n (pc' := 118) hc_X3_read dX3_read_117 rfl rfl 1 rfl ?_
      obtain ⟨c7, e⟩ := gd_of e
      obtain ⟨r8, h9, e10, e⟩ := bd2_of e
      refine k_V (pc' := 121) (ci := 2) (n := 1) hc_X3_read ho_X3_read rfl c7 (w_X3_does D l hl x0 x1 h e10) (wA_l q2650) q2652 (wA_l qs73) q85 q2653 hy_334 ⟨Nat.le_of_ble_eq_true rfl, Nat.le_of_ble_eq_true rfl⟩ rfl rfl (Nat.le_of_ble_eq_true rfl) dX3_read_118 rfl (kS ?_) kN
      refine v_istore_n (pc' := 122) (lv' := [(2, .int r8), (0, .ref x0), (1, .int x1)]) hc_X3_read dX3_read_121 rfl rfl (Nat.le_of_ble_eq_true rfl) rfl ?_
      refine v_iload_n (pc' := 123) hc_X3_read dX3_read_122 rfl rfl 0 rfl ?_
      refine v_if_eq (pt := 191) (pf := 126) hc_X3_read dX3_read_123 rfl rfl e (fun _ e => ?_) (fun _ e => ?_)
      · refine v_iinc (pc' := 194) (lv' := [(1, .int (x1 + 1)), (2, .int r8), (0, .ref x0)]) (v := x1 + 1) hc_X3_read dX3_read_191 rfl 2 rfl rfl (Nat.le_of_ble_eq_true rfl) rfl ?_
        refine v_goto (pt := 108) hc_X3_read dX3_read_194 rfl ?_
        refine v_pick [2, 0] rfl ?_
        exact IH x0 (x1 + 1) h9 e
      · refine v_iconst (pc' := 127) (v := 0) hc_X3_read dX3_read_126 rfl rfl ?_
        refine v_istore_n (pc' := 128) (lv' := [(3, .int (0 : Int32)), (2, .int r8), (0, .ref x0), (1, .int x1)]) hc_X3_read dX3_read_127 rfl rfl (Nat.le_of_ble_eq_true rfl) rfl ?_
        refine v_pick [2, 3, 1, 0] rfl ?_
        exact w_X3_read_l128 D l hl as h0 NN x0 x1 r8 (0 : Int32) h9 e
def f_X3_read_j74 (x0 : Nat) (h : AH) : Option (Int32 × AH) :=
  bd (gtI h 2 x0 23) fun v1 =>
  if v1 = 0 then (
    bd (gtI h 2 x0 20) fun v2 =>
    bd (gtI h 2 x0 21) fun v3 =>
    if v3 ≤ v2 then (
      f_X3_read_l108 NN x0 (0 : Int32) h
    ) else (
      bd (gtI h 2 x0 20) fun v4 =>
      bd (stF h 2 x0 13 (.int v4)) fun h5 =>
      gd (isC h5 2 x0) <|
      bd2 (f_X3_fails x0 (1 : Int32) h5) fun r7 h8 =>
      some (r7, h8)
    )
  ) else (
    bd (gtI h 2 x0 20) fun v10 =>
    bd (stF h 2 x0 13 (.int v10)) fun h11 =>
    gd (isC h11 2 x0) <|
    bd2 (f_X3_fails x0 (1 : Int32) h11) fun r13 h14 =>
    some (r13, h14)
  )
theorem w_X3_read_j74 (D : va_G) (l : Launch) (hl : l.stackTraces = false) (as : List Value) (h0 : AH) {r : Int32} {hF : AH} (x0 : Nat) (h : AH) (e : f_X3_read_j74 x0 h = some (r, hF)) : V (G_X3_read D l as h0 hF (oI r)) h 74 [(0, .ref x0)] [] := by
  unfold f_X3_read_j74 at e
  refine v_aload_n (pc' := 75) hc_X3_read dX3_read_74 rfl rfl 0 rfl ?_
  refine v_gfI (pc' := 78) hc_X3_read ho_X3_read KX3 23 (Nat.le_of_ble_eq_true rfl) q2265 (Or.inl rfl) dX3_read_75 rfl e (fun v1 _ e => ?_)
  refine v_if_ne (pt := 92) (pf := 81) hc_X3_read dX3_read_78 rfl rfl e (fun _ e => ?_) (fun _ e => ?_)
  · refine v_aload_n (pc' := 82) hc_X3_read dX3_read_81 rfl rfl 0 rfl ?_
    refine v_gfI (pc' := 85) hc_X3_read ho_X3_read KX3 20 (Nat.le_of_ble_eq_true rfl) q2262 (Or.inl rfl) dX3_read_82 rfl e (fun v2 _ e => ?_)
    refine v_aload_n (pc' := 86) hc_X3_read dX3_read_85 rfl rfl 0 rfl ?_
    refine v_gfI (pc' := 89) hc_X3_read ho_X3_read KX3 21 (Nat.le_of_ble_eq_true rfl) q2263 (Or.inl rfl) dX3_read_86 rfl e (fun v3 _ e => ?_)
    refine v_icmp_ge (pt := 106) (pf := 92) hc_X3_read dX3_read_89 rfl rfl e (fun _ e => ?_) (fun _ e => ?_)
    · refine v_iconst (pc' := 107) (v := 0) hc_X3_read dX3_read_106 rfl rfl ?_
      refine v_istore_n (pc' := 108) (lv' := [(1, .int (0 : Int32)), (0, .ref x0)]) hc_X3_read dX3_read_107 rfl rfl (Nat.le_of_ble_eq_true rfl) rfl ?_
      refine v_pick [1, 0] rfl ?_
      exact w_X3_read_l108 D l hl as h0 NN x0 (0 : Int32) h e
    · refine v_aload_n (pc' := 93) hc_X3_read dX3_read_92 rfl rfl 0 rfl ?_
      refine v_aload_n (pc' := 94) hc_X3_read dX3_read_93 rfl rfl 0 rfl ?_
      refine v_gfI (pc' := 97) hc_X3_read ho_X3_read KX3 20 (Nat.le_of_ble_eq_true rfl) q2262 (Or.inl rfl) dX3_read_94 rfl e (fun v4 _ e => ?_)
      refine v_pf (pc' := 100) hc_X3_read ho_X3_read KX3 13 (Nat.le_of_ble_eq_true rfl) q2255 (Or.inl rfl) rfl dX3_read_97 rfl rfl rfl e (fun h5 _ e => ?_)
      refine v_aload_n (pc' := 101) hc_X3_read dX3_read_100 rfl rfl 0 rfl ?_
      refine v_iconst (pc' := 102) (v := 1) hc_X3_read dX3_read_101 rfl rfl ?_
      obtain ⟨c6, e⟩ := gd_of e
      obtain ⟨r7, h8, e9, e⟩ := bd2_of e
      refine k_V (pc' := 105) (ci := 2) (n := 1) hc_X3_read ho_X3_read rfl c6 (w_X3_fails D l hl x0 (1 : Int32) h5 e9) (wA_l q2351) q2353 (wA_l qs30) q85 q2354 hy_119 ⟨Nat.le_of_ble_eq_true rfl, Nat.le_of_ble_eq_true rfl⟩ rfl rfl (Nat.le_of_ble_eq_true rfl) dX3_read_102 rfl (kS ?_) kN
      obtain ⟨rfl, rfl⟩ := ret_of e
      exact v_iret hc_X3_read rfl dX3_read_105 rfl rfl
  · refine v_aload_n (pc' := 93) hc_X3_read dX3_read_92 rfl rfl 0 rfl ?_
    refine v_aload_n (pc' := 94) hc_X3_read dX3_read_93 rfl rfl 0 rfl ?_
    refine v_gfI (pc' := 97) hc_X3_read ho_X3_read KX3 20 (Nat.le_of_ble_eq_true rfl) q2262 (Or.inl rfl) dX3_read_94 rfl e (fun v10 _ e => ?_)
    refine v_pf (pc' := 100) hc_X3_read ho_X3_read KX3 13 (Nat.le_of_ble_eq_true rfl) q2255 (Or.inl rfl) rfl dX3_read_97 rfl rfl rfl e (fun h11 _ e => ?_)
    refine v_aload_n (pc' := 101) hc_X3_read dX3_read_100 rfl rfl 0 rfl ?_
    refine v_iconst (pc' := 102) (v := 1) hc_X3_read dX3_read_101 rfl rfl ?_
    obtain ⟨c12, e⟩ := gd_of e
    obtain ⟨r13, h14, e15, e⟩ := bd2_of e
    refine k_V (pc' := 105) (ci := 2) (n := 1) hc_X3_read ho_X3_read rfl c12 (w_X3_fails D l hl x0 (1 : Int32) h11 e15) (wA_l q2351) q2353 (wA_l qs30) q85 q2354 hy_119 ⟨Nat.le_of_ble_eq_true rfl, Nat.le_of_ble_eq_true rfl⟩ rfl rfl (Nat.le_of_ble_eq_true rfl) dX3_read_102 rfl (kS ?_) kN
    obtain ⟨rfl, rfl⟩ := ret_of e
    exact v_iret hc_X3_read rfl dX3_read_105 rfl rfl
def fb_X3_read_l41 (rec : Nat → AH → Option (Int32 × AH)) (x0 : Nat) (h : AH) : Option (Int32 × AH) :=
  bd (gtI h 2 x0 23) fun v1 =>
  if v1 = 0 then (
    gd (isC h 2 x0) <|
    bd2 (f_X3_here x0 h) fun r3 h4 =>
    if r3 = (59 : Int32) then (
      bd (gtI h4 2 x0 20) fun v6 =>
      bd (stF h4 2 x0 20 (.int (v6 + (1 : Int32)))) fun h7 =>
      gd (isC h7 2 x0) <|
      bd2 (f_X3_readsOne x0 h7) fun r9 h10 =>
      rec x0 h10
    ) else (
      f_X3_read_j74 x0 h4
    )
  ) else (
    f_X3_read_j74 x0 h
  )
def f_X3_read_l41 : Nat → Nat → AH → Option (Int32 × AH)
  | 0 => fun _ _ => none
  | n + 1 => fb_X3_read_l41 (f_X3_read_l41 n) 
theorem w_X3_read_l41 (D : va_G) (l : Launch) (hl : l.stackTraces = false) (as : List Value) (h0 : AH) {r : Int32} {hF : AH} : ∀ (n : Nat) (x0 : Nat) (h : AH), f_X3_read_l41 n x0 h = some (r, hF) → V (G_X3_read D l as h0 hF (oI r)) h 41 [(0, .ref x0)] [] := by
  intro n; induction n with
  | zero => intro x0 h e; exact absurd (show (none : Option (Int32 × AH)) = some _ from e) (fun z => nomatch z)
  | succ n IH =>
    intro x0 h e
    have e : fb_X3_read_l41 (f_X3_read_l41 n) x0 h = some (r, hF) := e
    unfold fb_X3_read_l41 at e
    refine v_aload_n (pc' := 42) hc_X3_read dX3_read_41 rfl rfl 0 rfl ?_
    refine v_gfI (pc' := 45) hc_X3_read ho_X3_read KX3 23 (Nat.le_of_ble_eq_true rfl) q2265 (Or.inl rfl) dX3_read_42 rfl e (fun v1 _ e => ?_)
    refine v_if_ne (pt := 74) (pf := 48) hc_X3_read dX3_read_45 rfl rfl e (fun _ e => ?_) (fun _ e => ?_)
    · refine v_aload_n (pc' := 49) hc_X3_read dX3_read_48 rfl rfl 0 rfl ?_
      obtain ⟨c2, e⟩ := gd_of e
      obtain ⟨r3, h4, e5, e⟩ := bd2_of e
      refine k_V (pc' := 52) (ci := 2) (n := 0) hc_X3_read ho_X3_read rfl c2 (w_X3_here D l hl x0 h e5) (wA_l q2627) q2629 (wA_l qs69) q85 q2630 hy_329 ⟨Nat.le_of_ble_eq_true rfl, Nat.le_of_ble_eq_true rfl⟩ rfl rfl (Nat.le_of_ble_eq_true rfl) dX3_read_49 rfl (kS ?_) kN
      refine v_bipush (pc' := 54) (v := 59) hc_X3_read dX3_read_52 rfl rfl ?_
      refine v_icmp_ne (pt := 74) (pf := 57) hc_X3_read dX3_read_54 rfl rfl e (fun _ e => ?_) (fun _ e => ?_)
      · refine v_aload_n (pc' := 58) hc_X3_read dX3_read_57 rfl rfl 0 rfl ?_
        refine v_dup (pc' := 59) hc_X3_read dX3_read_58 rfl rfl ?_
        refine v_gfI (pc' := 62) hc_X3_read ho_X3_read KX3 20 (Nat.le_of_ble_eq_true rfl) q2262 (Or.inl rfl) dX3_read_59 rfl e (fun v6 _ e => ?_)
        refine v_iconst (pc' := 63) (v := 1) hc_X3_read dX3_read_62 rfl rfl ?_
        refine v_iadd (pc' := 64) hc_X3_read dX3_read_63 rfl ?_
        refine v_pf (pc' := 67) hc_X3_read ho_X3_read KX3 20 (Nat.le_of_ble_eq_true rfl) q2262 (Or.inl rfl) rfl dX3_read_64 rfl rfl rfl e (fun h7 _ e => ?_)
        refine v_aload_n (pc' := 68) hc_X3_read dX3_read_67 rfl rfl 0 rfl ?_
        obtain ⟨c8, e⟩ := gd_of e
        obtain ⟨r9, h10, e11, e⟩ := bd2_of e
        refine k_V (pc' := 71) (ci := 2) (n := 0) hc_X3_read ho_X3_read rfl c8 (w_X3_readsOne D l hl x0 h7 e11) (wA_l q2623) q2625 (wA_l qs68) q85 q2626 hy_333 ⟨Nat.le_of_ble_eq_true rfl, Nat.le_of_ble_eq_true rfl⟩ rfl rfl (Nat.le_of_ble_eq_true rfl) dX3_read_68 rfl (kU ?_) kN
        refine v_goto (pt := 41) hc_X3_read dX3_read_71 rfl ?_
        exact IH x0 h10 e
      · exact w_X3_read_j74 D l hl as h0 x0 h4 e
    · exact w_X3_read_j74 D l hl as h0 x0 h e
def f_X3_read (x0 : Nat) (h : AH) : Option (Int32 × AH) :=
  bd (stF h 2 x0 0 (.int (0 : Int32))) fun h1 =>
  gd (isC h1 2 x0) <|
  bd2 (f_X3_remembers x0 h1) fun r3 h4 =>
  bd (stF h4 2 x0 20 (.int (0 : Int32))) fun h6 =>
  bd (gtI h6 2 x0 11) fun v7 =>
  bd (stF h6 2 x0 21 (.int v7)) fun h8 =>
  bd (stF h8 2 x0 11 (.int (0 : Int32))) fun h9 =>
  bd (stF h9 2 x0 22 (.int (0 : Int32))) fun h10 =>
  bd (stF h10 2 x0 23 (.int (0 : Int32))) fun h11 =>
  gd (isC h11 2 x0) <|
  bd2 (f_X3_readsOne x0 h11) fun r13 h14 =>
  f_X3_read_l41 NN x0 h14
theorem v_X3_read (D : va_G) (l : Launch) (hl : l.stackTraces = false) (as : List Value) (h0 : AH) {r : Int32} {hF : AH} (x0 : Nat) (h : AH) (e : f_X3_read x0 h = some (r, hF)) : V (G_X3_read D l as h0 hF (oI r)) h 0 [(0, .ref x0)] [] := by
  unfold f_X3_read at e
  refine v_aload_n (pc' := 1) hc_X3_read dX3_read_0 rfl rfl 0 rfl ?_
  refine v_iconst (pc' := 2) (v := 0) hc_X3_read dX3_read_1 rfl rfl ?_
  refine v_pf (pc' := 5) hc_X3_read ho_X3_read KX3 0 (Nat.le_of_ble_eq_true rfl) q2242 (Or.inl rfl) rfl dX3_read_2 rfl rfl rfl e (fun h1 _ e => ?_)
  refine v_aload_n (pc' := 6) hc_X3_read dX3_read_5 rfl rfl 0 rfl ?_
  obtain ⟨c2, e⟩ := gd_of e
  obtain ⟨r3, h4, e5, e⟩ := bd2_of e
  refine k_V (pc' := 9) (ci := 2) (n := 0) hc_X3_read ho_X3_read rfl c2 (w_X3_remembers D l hl x0 h1 e5) (wA_l q2324) q2326 (wA_l qs24) q85 q2327 hy_117 ⟨Nat.le_of_ble_eq_true rfl, Nat.le_of_ble_eq_true rfl⟩ rfl rfl (Nat.le_of_ble_eq_true rfl) dX3_read_6 rfl (kU ?_) kN
  refine v_aload_n (pc' := 10) hc_X3_read dX3_read_9 rfl rfl 0 rfl ?_
  refine v_iconst (pc' := 11) (v := 0) hc_X3_read dX3_read_10 rfl rfl ?_
  refine v_pf (pc' := 14) hc_X3_read ho_X3_read KX3 20 (Nat.le_of_ble_eq_true rfl) q2262 (Or.inl rfl) rfl dX3_read_11 rfl rfl rfl e (fun h6 _ e => ?_)
  refine v_aload_n (pc' := 15) hc_X3_read dX3_read_14 rfl rfl 0 rfl ?_
  refine v_aload_n (pc' := 16) hc_X3_read dX3_read_15 rfl rfl 0 rfl ?_
  refine v_gfI (pc' := 19) hc_X3_read ho_X3_read KX3 11 (Nat.le_of_ble_eq_true rfl) q2253 (Or.inl rfl) dX3_read_16 rfl e (fun v7 _ e => ?_)
  refine v_pf (pc' := 22) hc_X3_read ho_X3_read KX3 21 (Nat.le_of_ble_eq_true rfl) q2263 (Or.inl rfl) rfl dX3_read_19 rfl rfl rfl e (fun h8 _ e => ?_)
  refine v_aload_n (pc' := 23) hc_X3_read dX3_read_22 rfl rfl 0 rfl ?_
  refine v_iconst (pc' := 24) (v := 0) hc_X3_read dX3_read_23 rfl rfl ?_
  refine v_pf (pc' := 27) hc_X3_read ho_X3_read KX3 11 (Nat.le_of_ble_eq_true rfl) q2253 (Or.inl rfl) rfl dX3_read_24 rfl rfl rfl e (fun h9 _ e => ?_)
  refine v_aload_n (pc' := 28) hc_X3_read dX3_read_27 rfl rfl 0 rfl ?_
  refine v_iconst (pc' := 29) (v := 0) hc_X3_read dX3_read_28 rfl rfl ?_
  refine v_pf (pc' := 32) hc_X3_read ho_X3_read KX3 22 (Nat.le_of_ble_eq_true rfl) q2264 (Or.inl rfl) rfl dX3_read_29 rfl rfl rfl e (fun h10 _ e => ?_)
  refine v_aload_n (pc' := 33) hc_X3_read dX3_read_32 rfl rfl 0 rfl ?_
  refine v_iconst (pc' := 34) (v := 0) hc_X3_read dX3_read_33 rfl rfl ?_
  refine v_pf (pc' := 37) hc_X3_read ho_X3_read KX3 23 (Nat.le_of_ble_eq_true rfl) q2265 (Or.inl rfl) rfl dX3_read_34 rfl rfl rfl e (fun h11 _ e => ?_)
  refine v_aload_n (pc' := 38) hc_X3_read dX3_read_37 rfl rfl 0 rfl ?_
  obtain ⟨c12, e⟩ := gd_of e
  obtain ⟨r13, h14, e15, e⟩ := bd2_of e
  refine k_V (pc' := 41) (ci := 2) (n := 0) hc_X3_read ho_X3_read rfl c12 (w_X3_readsOne D l hl x0 h11 e15) (wA_l q2623) q2625 (wA_l qs68) q85 q2626 hy_333 ⟨Nat.le_of_ble_eq_true rfl, Nat.le_of_ble_eq_true rfl⟩ rfl rfl (Nat.le_of_ble_eq_true rfl) dX3_read_38 rfl (kU ?_) kN
  exact w_X3_read_l41 D l hl as h0 NN x0 h14 e
theorem w_X3_read (D : va_G) (l : Launch) (hl : l.stackTraces = false) (x0 : Nat) (h : AH) {r : Int32} {hF : AH} (e : f_X3_read x0 h = some (r, hF)) : MetV D l yX3_read (Cond.code yX3_read cX3_read 4 (Option.some .int)) 10 260 [.ref x0] h hF (oI r) :=
  met_ofF (by decide +kernel) hl (Nat.le_of_ble_eq_true rfl) rfl (v_X3_read D l hl [.ref x0] h x0 h e)
/-! BlockPapersModel.faultPosition()I  -/
abbrev G_X3_faultPosition (D : va_G) (l : Launch) (as : List Value) (h0 hF : AH) (o : Out) : CT := (D, l, (yX3_faultPosition.cls, yX3_faultPosition, cX3_faultPosition, 1, (Option.some .int), 2, 69, []), as, h0, hF, o)
theorem hc_X3_faultPosition {D : va_G} {l : Launch} {as : List Value} {h0 hF : AH} {o : Out} : gC (G_X3_faultPosition D l as h0 hF o) = cX3_faultPosition := rfl
theorem ho_X3_faultPosition {D : va_G} {l : Launch} {as : List Value} {h0 hF : AH} {o : Out} : gO (G_X3_faultPosition D l as h0 hF o) = "BlockPapersModel" := rfl
theorem hp_X3_faultPosition {D : va_G} {l : Launch} {as : List Value} {h0 hF : AH} {o : Out} (pc : Nat) : ∀ z ∈ tableOf (gHd (G_X3_faultPosition D l as h0 hF o)), covers z pc = false := hpN
def f_X3_faultPosition (x0 : Nat) (h : AH) : Option (Int32 × AH) :=
  bd (stF h 2 x0 0 (.int (0 : Int32))) fun h1 =>
  bd (gtI h1 2 x0 13) fun v2 =>
  if v2 = (-1 : Int32) then (
    gd (isC h1 2 x0) <|
    bd2 (f_X3_fails x0 (1 : Int32) h1) fun r4 h5 =>
    some (r4, h5)
  ) else (
    bd (gtI h1 2 x0 13) fun v7 =>
    some (v7, h1)
  )
theorem v_X3_faultPosition (D : va_G) (l : Launch) (hl : l.stackTraces = false) (as : List Value) (h0 : AH) {r : Int32} {hF : AH} (x0 : Nat) (h : AH) (e : f_X3_faultPosition x0 h = some (r, hF)) : V (G_X3_faultPosition D l as h0 hF (oI r)) h 0 [(0, .ref x0)] [] := by
  unfold f_X3_faultPosition at e
  refine v_aload_n (pc' := 1) hc_X3_faultPosition dX3_faultPosition_0 rfl rfl 0 rfl ?_
  refine v_iconst (pc' := 2) (v := 0) hc_X3_faultPosition dX3_faultPosition_1 rfl rfl ?_
  refine v_pf (pc' := 5) hc_X3_faultPosition ho_X3_faultPosition KX3 0 (Nat.le_of_ble_eq_true rfl) q2242 (Or.inl rfl) rfl dX3_faultPosition_2 rfl rfl rfl e (fun h1 _ e => ?_)
  refine v_aload_n (pc' := 6) hc_X3_faultPosition dX3_faultPosition_5 rfl rfl 0 rfl ?_
  refine v_gfI (pc' := 9) hc_X3_faultPosition ho_X3_faultPosition KX3 13 (Nat.le_of_ble_eq_true rfl) q2255 (Or.inl rfl) dX3_faultPosition_6 rfl e (fun v2 _ e => ?_)
  refine v_iconst (pc' := 10) (v := (-1)) hc_X3_faultPosition dX3_faultPosition_9 rfl rfl ?_
  refine v_icmp_ne (pt := 21) (pf := 13) hc_X3_faultPosition dX3_faultPosition_10 rfl rfl e (fun _ e => ?_) (fun _ e => ?_)
  · refine v_aload_n (pc' := 14) hc_X3_faultPosition dX3_faultPosition_13 rfl rfl 0 rfl ?_
    refine v_iconst (pc' := 15) (v := 1) hc_X3_faultPosition dX3_faultPosition_14 rfl rfl ?_
    obtain ⟨c3, e⟩ := gd_of e
    obtain ⟨r4, h5, e6, e⟩ := bd2_of e
    refine k_V (pc' := 18) (ci := 2) (n := 1) hc_X3_faultPosition ho_X3_faultPosition rfl c3 (w_X3_fails D l hl x0 (1 : Int32) h1 e6) (wA_l q2351) q2353 (wA_l qs30) q85 q2354 hy_119 ⟨Nat.le_of_ble_eq_true rfl, Nat.le_of_ble_eq_true rfl⟩ rfl rfl (Nat.le_of_ble_eq_true rfl) dX3_faultPosition_15 rfl (kS ?_) kN
    refine v_goto (pt := 25) hc_X3_faultPosition dX3_faultPosition_18 rfl ?_
    obtain ⟨rfl, rfl⟩ := ret_of e
    exact v_iret hc_X3_faultPosition rfl dX3_faultPosition_25 rfl rfl
  · refine v_aload_n (pc' := 22) hc_X3_faultPosition dX3_faultPosition_21 rfl rfl 0 rfl ?_
    refine v_gfI (pc' := 25) hc_X3_faultPosition ho_X3_faultPosition KX3 13 (Nat.le_of_ble_eq_true rfl) q2255 (Or.inl rfl) dX3_faultPosition_22 rfl e (fun v7 _ e => ?_)
    obtain ⟨rfl, rfl⟩ := ret_of e
    exact v_iret hc_X3_faultPosition rfl dX3_faultPosition_25 rfl rfl
theorem w_X3_faultPosition (D : va_G) (l : Launch) (hl : l.stackTraces = false) (x0 : Nat) (h : AH) {r : Int32} {hF : AH} (e : f_X3_faultPosition x0 h = some (r, hF)) : MetV D l yX3_faultPosition (Cond.code yX3_faultPosition cX3_faultPosition 1 (Option.some .int)) 2 69 [.ref x0] h hF (oI r) :=
  met_ofF (by decide +kernel) hl (Nat.le_of_ble_eq_true rfl) rfl (v_X3_faultPosition D l hl [.ref x0] h x0 h e)
/-! BlockPapersModel.refusal(IZ)I  -/
abbrev G_X3_refusal (D : va_G) (l : Launch) (as : List Value) (h0 hF : AH) (o : Out) : CT := (D, l, (yX3_refusal.cls, yX3_refusal, cX3_refusal, 3, (Option.some .int), 2, 70, []), as, h0, hF, o)
theorem hc_X3_refusal {D : va_G} {l : Launch} {as : List Value} {h0 hF : AH} {o : Out} : gC (G_X3_refusal D l as h0 hF o) = cX3_refusal := rfl
theorem ho_X3_refusal {D : va_G} {l : Launch} {as : List Value} {h0 hF : AH} {o : Out} : gO (G_X3_refusal D l as h0 hF o) = "BlockPapersModel" := rfl
theorem hp_X3_refusal {D : va_G} {l : Launch} {as : List Value} {h0 hF : AH} {o : Out} (pc : Nat) : ∀ z ∈ tableOf (gHd (G_X3_refusal D l as h0 hF o)), covers z pc = false := hpN
def f_X3_refusal_j39 (x0 : Nat) (x1 : Int32) (x2 : Int32) (h : AH) : Option (Int32 × AH) :=
  if x1 = (1 : Int32) then (
    if x2 = 0 then (
      bd (gtI h 2 x0 16) fun v1 =>
      some (v1, h)
    ) else (
      bd (gtI h 2 x0 17) fun v2 =>
      some (v2, h)
    )
  ) else (
    if x2 = 0 then (
      bd (gtI h 2 x0 14) fun v3 =>
      some (v3, h)
    ) else (
      bd (gtI h 2 x0 15) fun v4 =>
      some (v4, h)
    )
  )
theorem w_X3_refusal_j39 (D : va_G) (l : Launch) (hl : l.stackTraces = false) (as : List Value) (h0 : AH) {r : Int32} {hF : AH} (x0 : Nat) (x1 : Int32) (x2 : Int32) (h : AH) (e : f_X3_refusal_j39 x0 x1 x2 h = some (r, hF)) : V (G_X3_refusal D l as h0 hF (oI r)) h 39 [(0, .ref x0), (1, .int x1), (2, .int x2)] [] := by
  unfold f_X3_refusal_j39 at e
  refine v_iload_n (pc' := 40) hc_X3_refusal dX3_refusal_39 rfl rfl 1 rfl ?_
  refine v_iconst (pc' := 41) (v := 1) hc_X3_refusal dX3_refusal_40 rfl rfl ?_
  refine v_icmp_ne (pt := 60) (pf := 44) hc_X3_refusal dX3_refusal_41 rfl rfl e (fun _ e => ?_) (fun _ e => ?_)
  · refine v_iload_n (pc' := 45) hc_X3_refusal dX3_refusal_44 rfl rfl 2 rfl ?_
    refine v_if_eq (pt := 55) (pf := 48) hc_X3_refusal dX3_refusal_45 rfl rfl e (fun _ e => ?_) (fun _ e => ?_)
    · refine v_aload_n (pc' := 56) hc_X3_refusal dX3_refusal_55 rfl rfl 0 rfl ?_
      refine v_gfI (pc' := 59) hc_X3_refusal ho_X3_refusal KX3 16 (Nat.le_of_ble_eq_true rfl) q2258 (Or.inl rfl) dX3_refusal_56 rfl e (fun v1 _ e => ?_)
      obtain ⟨rfl, rfl⟩ := ret_of e
      exact v_iret hc_X3_refusal rfl dX3_refusal_59 rfl rfl
    · refine v_aload_n (pc' := 49) hc_X3_refusal dX3_refusal_48 rfl rfl 0 rfl ?_
      refine v_gfI (pc' := 52) hc_X3_refusal ho_X3_refusal KX3 17 (Nat.le_of_ble_eq_true rfl) q2259 (Or.inl rfl) dX3_refusal_49 rfl e (fun v2 _ e => ?_)
      refine v_goto (pt := 59) hc_X3_refusal dX3_refusal_52 rfl ?_
      obtain ⟨rfl, rfl⟩ := ret_of e
      exact v_iret hc_X3_refusal rfl dX3_refusal_59 rfl rfl
  · refine v_iload_n (pc' := 61) hc_X3_refusal dX3_refusal_60 rfl rfl 2 rfl ?_
    refine v_if_eq (pt := 71) (pf := 64) hc_X3_refusal dX3_refusal_61 rfl rfl e (fun _ e => ?_) (fun _ e => ?_)
    · refine v_aload_n (pc' := 72) hc_X3_refusal dX3_refusal_71 rfl rfl 0 rfl ?_
      refine v_gfI (pc' := 75) hc_X3_refusal ho_X3_refusal KX3 14 (Nat.le_of_ble_eq_true rfl) q2256 (Or.inl rfl) dX3_refusal_72 rfl e (fun v3 _ e => ?_)
      obtain ⟨rfl, rfl⟩ := ret_of e
      exact v_iret hc_X3_refusal rfl dX3_refusal_75 rfl rfl
    · refine v_aload_n (pc' := 65) hc_X3_refusal dX3_refusal_64 rfl rfl 0 rfl ?_
      refine v_gfI (pc' := 68) hc_X3_refusal ho_X3_refusal KX3 15 (Nat.le_of_ble_eq_true rfl) q2257 (Or.inl rfl) dX3_refusal_65 rfl e (fun v4 _ e => ?_)
      refine v_goto (pt := 75) hc_X3_refusal dX3_refusal_68 rfl ?_
      obtain ⟨rfl, rfl⟩ := ret_of e
      exact v_iret hc_X3_refusal rfl dX3_refusal_75 rfl rfl
def f_X3_refusal (x0 : Nat) (x1 : Int32) (x2 : Int32) (h : AH) : Option (Int32 × AH) :=
  bd (stF h 2 x0 0 (.int (0 : Int32))) fun h1 =>
  bd (gtI h1 2 x0 14) fun v2 =>
  if v2 = 0 then (
    gd (isC h1 2 x0) <|
    bd2 (f_X3_fails x0 (1 : Int32) h1) fun r4 h5 =>
    some (r4, h5)
  ) else (
    bd2 (f_X3_in x1 (0 : Int32) (1 : Int32) h1) fun r7 h8 =>
    if r7 = 0 then (
      gd (isC h8 2 x0) <|
      bd2 (f_X3_fails x0 (1 : Int32) h8) fun r11 h12 =>
      some (r11, h12)
    ) else (
      if x1 = (1 : Int32) then (
        bd (gtI h8 2 x0 16) fun v14 =>
        if v14 = 0 then (
          gd (isC h8 2 x0) <|
          bd2 (f_X3_fails x0 (1 : Int32) h8) fun r16 h17 =>
          some (r16, h17)
        ) else (
          f_X3_refusal_j39 x0 x1 x2 h8
        )
      ) else (
        f_X3_refusal_j39 x0 x1 x2 h8
      )
    )
  )
theorem v_X3_refusal (D : va_G) (l : Launch) (hl : l.stackTraces = false) (as : List Value) (h0 : AH) {r : Int32} {hF : AH} (x0 : Nat) (x1 : Int32) (x2 : Int32) (h : AH) (e : f_X3_refusal x0 x1 x2 h = some (r, hF)) : V (G_X3_refusal D l as h0 hF (oI r)) h 0 [(0, .ref x0), (1, .int x1), (2, .int x2)] [] := by
  unfold f_X3_refusal at e
  refine v_aload_n (pc' := 1) hc_X3_refusal dX3_refusal_0 rfl rfl 0 rfl ?_
  refine v_iconst (pc' := 2) (v := 0) hc_X3_refusal dX3_refusal_1 rfl rfl ?_
  refine v_pf (pc' := 5) hc_X3_refusal ho_X3_refusal KX3 0 (Nat.le_of_ble_eq_true rfl) q2242 (Or.inl rfl) rfl dX3_refusal_2 rfl rfl rfl e (fun h1 _ e => ?_)
  refine v_aload_n (pc' := 6) hc_X3_refusal dX3_refusal_5 rfl rfl 0 rfl ?_
  refine v_gfI (pc' := 9) hc_X3_refusal ho_X3_refusal KX3 14 (Nat.le_of_ble_eq_true rfl) q2256 (Or.inl rfl) dX3_refusal_6 rfl e (fun v2 _ e => ?_)
  refine v_if_eq (pt := 33) (pf := 12) hc_X3_refusal dX3_refusal_9 rfl rfl e (fun _ e => ?_) (fun _ e => ?_)
  · refine v_aload_n (pc' := 34) hc_X3_refusal dX3_refusal_33 rfl rfl 0 rfl ?_
    refine v_iconst (pc' := 35) (v := 1) hc_X3_refusal dX3_refusal_34 rfl rfl ?_
    obtain ⟨c3, e⟩ := gd_of e
    obtain ⟨r4, h5, e6, e⟩ := bd2_of e
    refine k_V (pc' := 38) (ci := 2) (n := 1) hc_X3_refusal ho_X3_refusal rfl c3 (w_X3_fails D l hl x0 (1 : Int32) h1 e6) (wA_l q2351) q2353 (wA_l qs30) q85 q2354 hy_119 ⟨Nat.le_of_ble_eq_true rfl, Nat.le_of_ble_eq_true rfl⟩ rfl rfl (Nat.le_of_ble_eq_true rfl) dX3_refusal_35 rfl (kS ?_) kN
    obtain ⟨rfl, rfl⟩ := ret_of e
    exact v_iret hc_X3_refusal rfl dX3_refusal_38 rfl rfl
  · refine v_iload_n (pc' := 13) hc_X3_refusal dX3_refusal_12 rfl rfl 1 rfl ?_
    refine v_iconst (pc' := 14) (v := 0) hc_X3_refusal dX3_refusal_13 rfl rfl ?_
    refine v_iconst (pc' := 15) (v := 1) hc_X3_refusal dX3_refusal_14 rfl rfl ?_
    obtain ⟨r7, h8, e9, e⟩ := bd2_of e
    refine k_S (pc' := 18) (n := 3) hc_X3_refusal ho_X3_refusal (w_X3_in D l hl x1 (0 : Int32) (1 : Int32) h1 e9) (wA_l q2328) q2329 q85 q2330 hy_118 ⟨Nat.le_of_ble_eq_true rfl, Nat.le_of_ble_eq_true rfl⟩ rfl rfl (Nat.le_of_ble_eq_true rfl) dX3_refusal_15 rfl (kS ?_) kN
    refine v_if_eq (pt := 33) (pf := 21) hc_X3_refusal dX3_refusal_18 rfl rfl e (fun _ e => ?_) (fun _ e => ?_)
    · refine v_aload_n (pc' := 34) hc_X3_refusal dX3_refusal_33 rfl rfl 0 rfl ?_
      refine v_iconst (pc' := 35) (v := 1) hc_X3_refusal dX3_refusal_34 rfl rfl ?_
      obtain ⟨c10, e⟩ := gd_of e
      obtain ⟨r11, h12, e13, e⟩ := bd2_of e
      refine k_V (pc' := 38) (ci := 2) (n := 1) hc_X3_refusal ho_X3_refusal rfl c10 (w_X3_fails D l hl x0 (1 : Int32) h8 e13) (wA_l q2351) q2353 (wA_l qs30) q85 q2354 hy_119 ⟨Nat.le_of_ble_eq_true rfl, Nat.le_of_ble_eq_true rfl⟩ rfl rfl (Nat.le_of_ble_eq_true rfl) dX3_refusal_35 rfl (kS ?_) kN
      obtain ⟨rfl, rfl⟩ := ret_of e
      exact v_iret hc_X3_refusal rfl dX3_refusal_38 rfl rfl
    · refine v_iload_n (pc' := 22) hc_X3_refusal dX3_refusal_21 rfl rfl 1 rfl ?_
      refine v_iconst (pc' := 23) (v := 1) hc_X3_refusal dX3_refusal_22 rfl rfl ?_
      refine v_icmp_ne (pt := 39) (pf := 26) hc_X3_refusal dX3_refusal_23 rfl rfl e (fun _ e => ?_) (fun _ e => ?_)
      · refine v_aload_n (pc' := 27) hc_X3_refusal dX3_refusal_26 rfl rfl 0 rfl ?_
        refine v_gfI (pc' := 30) hc_X3_refusal ho_X3_refusal KX3 16 (Nat.le_of_ble_eq_true rfl) q2258 (Or.inl rfl) dX3_refusal_27 rfl e (fun v14 _ e => ?_)
        refine v_if_ne (pt := 39) (pf := 33) hc_X3_refusal dX3_refusal_30 rfl rfl e (fun _ e => ?_) (fun _ e => ?_)
        · refine v_aload_n (pc' := 34) hc_X3_refusal dX3_refusal_33 rfl rfl 0 rfl ?_
          refine v_iconst (pc' := 35) (v := 1) hc_X3_refusal dX3_refusal_34 rfl rfl ?_
          obtain ⟨c15, e⟩ := gd_of e
          obtain ⟨r16, h17, e18, e⟩ := bd2_of e
          refine k_V (pc' := 38) (ci := 2) (n := 1) hc_X3_refusal ho_X3_refusal rfl c15 (w_X3_fails D l hl x0 (1 : Int32) h8 e18) (wA_l q2351) q2353 (wA_l qs30) q85 q2354 hy_119 ⟨Nat.le_of_ble_eq_true rfl, Nat.le_of_ble_eq_true rfl⟩ rfl rfl (Nat.le_of_ble_eq_true rfl) dX3_refusal_35 rfl (kS ?_) kN
          obtain ⟨rfl, rfl⟩ := ret_of e
          exact v_iret hc_X3_refusal rfl dX3_refusal_38 rfl rfl
        · exact w_X3_refusal_j39 D l hl as h0 x0 x1 x2 h8 e
      · exact w_X3_refusal_j39 D l hl as h0 x0 x1 x2 h8 e
theorem w_X3_refusal (D : va_G) (l : Launch) (hl : l.stackTraces = false) (x0 : Nat) (x1 : Int32) (x2 : Int32) (h : AH) {r : Int32} {hF : AH} (e : f_X3_refusal x0 x1 x2 h = some (r, hF)) : MetV D l yX3_refusal (Cond.code yX3_refusal cX3_refusal 3 (Option.some .int)) 2 70 [.ref x0, .int x1, .int x2] h hF (oI r) :=
  met_ofF (by decide +kernel) hl (Nat.le_of_ble_eq_true rfl) rfl (v_X3_refusal D l hl [.ref x0, .int x1, .int x2] h x0 x1 x2 h e)
/-! BlockPapersModel.undo()I  -/
abbrev G_X3_undo (D : va_G) (l : Launch) (as : List Value) (h0 hF : AH) (o : Out) : CT := (D, l, (yX3_undo.cls, yX3_undo, cX3_undo, 2, (Option.some .int), 2, 69, []), as, h0, hF, o)
theorem hc_X3_undo {D : va_G} {l : Launch} {as : List Value} {h0 hF : AH} {o : Out} : gC (G_X3_undo D l as h0 hF o) = cX3_undo := rfl
theorem ho_X3_undo {D : va_G} {l : Launch} {as : List Value} {h0 hF : AH} {o : Out} : gO (G_X3_undo D l as h0 hF o) = "BlockPapersModel" := rfl
theorem hp_X3_undo {D : va_G} {l : Launch} {as : List Value} {h0 hF : AH} {o : Out} (pc : Nat) : ∀ z ∈ tableOf (gHd (G_X3_undo D l as h0 hF o)), covers z pc = false := hpN
def fb_X3_undo_l30 (rec : Nat → Int32 → AH → Option (Int32 × AH)) (x0 : Nat) (x1 : Int32) (h : AH) : Option (Int32 × AH) :=
  if (793 : Int32) ≤ x1 then (
    bd (gtI h 2 x0 6) fun v1 =>
    some (v1, h)
  ) else (
    bd (gtR h 2 x0 1) fun v2 =>
    bd (gtR h 2 x0 4) fun v3 =>
    bd (gtI h 2 x0 6) fun v4 =>
    bd (ldI h 0 v3 (((793 : Int32) * v4) + x1)) fun v5 =>
    bd (stI h v2 x1 v5) fun h6 =>
    rec x0 (x1 + 1) h6
  )
def f_X3_undo_l30 : Nat → Nat → Int32 → AH → Option (Int32 × AH)
  | 0 => fun _ _ _ => none
  | n + 1 => fb_X3_undo_l30 (f_X3_undo_l30 n) 
theorem w_X3_undo_l30 (D : va_G) (l : Launch) (hl : l.stackTraces = false) (as : List Value) (h0 : AH) {r : Int32} {hF : AH} : ∀ (n : Nat) (x0 : Nat) (x1 : Int32) (h : AH), f_X3_undo_l30 n x0 x1 h = some (r, hF) → V (G_X3_undo D l as h0 hF (oI r)) h 30 [(0, .ref x0), (1, .int x1)] [] := by
  intro n; induction n with
  | zero => intro x0 x1 h e; exact absurd (show (none : Option (Int32 × AH)) = some _ from e) (fun z => nomatch z)
  | succ n IH =>
    intro x0 x1 h e
    have e : fb_X3_undo_l30 (f_X3_undo_l30 n) x0 x1 h = some (r, hF) := e
    unfold fb_X3_undo_l30 at e
    refine v_iload_n (pc' := 31) hc_X3_undo dX3_undo_30 rfl rfl 1 rfl ?_
    refine v_sipush (pc' := 34) (v := 793) hc_X3_undo dX3_undo_31 rfl rfl ?_
    refine v_icmp_ge (pt := 64) (pf := 37) hc_X3_undo dX3_undo_34 rfl rfl e (fun _ e => ?_) (fun _ e => ?_)
    · refine v_aload_n (pc' := 65) hc_X3_undo dX3_undo_64 rfl rfl 0 rfl ?_
      refine v_gfI (pc' := 68) hc_X3_undo ho_X3_undo KX3 6 (Nat.le_of_ble_eq_true rfl) q2248 (Or.inl rfl) dX3_undo_65 rfl e (fun v1 _ e => ?_)
      obtain ⟨rfl, rfl⟩ := ret_of e
      exact v_iret hc_X3_undo rfl dX3_undo_68 rfl rfl
    · refine v_aload_n (pc' := 38) hc_X3_undo dX3_undo_37 rfl rfl 0 rfl ?_
      refine v_gfR (pc' := 41) hc_X3_undo ho_X3_undo KX3 1 (Nat.le_of_ble_eq_true rfl) q2243 (Or.inl rfl) dX3_undo_38 rfl e (fun v2 _ e => ?_)
      refine v_iload_n (pc' := 42) hc_X3_undo dX3_undo_41 rfl rfl 1 rfl ?_
      refine v_aload_n (pc' := 43) hc_X3_undo dX3_undo_42 rfl rfl 0 rfl ?_
      refine v_gfR (pc' := 46) hc_X3_undo ho_X3_undo KX3 4 (Nat.le_of_ble_eq_true rfl) q2246 (Or.inl rfl) dX3_undo_43 rfl e (fun v3 _ e => ?_)
      refine v_sipush (pc' := 49) (v := 793) hc_X3_undo dX3_undo_46 rfl rfl ?_
      refine v_aload_n (pc' := 50) hc_X3_undo dX3_undo_49 rfl rfl 0 rfl ?_
      refine v_gfI (pc' := 53) hc_X3_undo ho_X3_undo KX3 6 (Nat.le_of_ble_eq_true rfl) q2248 (Or.inl rfl) dX3_undo_50 rfl e (fun v4 _ e => ?_)
      refine v_imul (pc' := 54) hc_X3_undo dX3_undo_53 rfl ?_
      refine v_iload_n (pc' := 55) hc_X3_undo dX3_undo_54 rfl rfl 1 rfl ?_
      refine v_iadd (pc' := 56) hc_X3_undo dX3_undo_55 rfl ?_
      refine v_iald (pc' := 57) hc_X3_undo dX3_undo_56 rfl e (fun v5 _ e => ?_)
      refine v_iast (pc' := 58) hc_X3_undo dX3_undo_57 rfl e (fun h6 _ e => ?_)
      refine v_iinc (pc' := 61) (lv' := [(1, .int (x1 + 1)), (0, .ref x0)]) (v := x1 + 1) hc_X3_undo dX3_undo_58 rfl 1 rfl rfl (Nat.le_of_ble_eq_true rfl) rfl ?_
      refine v_goto (pt := 30) hc_X3_undo dX3_undo_61 rfl ?_
      refine v_pick [1, 0] rfl ?_
      exact IH x0 (x1 + 1) h6 e
def f_X3_undo (x0 : Nat) (h : AH) : Option (Int32 × AH) :=
  bd (stF h 2 x0 0 (.int (0 : Int32))) fun h1 =>
  bd (gtI h1 2 x0 6) fun v2 =>
  if v2 = 0 then (
    gd (isC h1 2 x0) <|
    bd2 (f_X3_fails x0 (1 : Int32) h1) fun r4 h5 =>
    some (r4, h5)
  ) else (
    bd (gtI h1 2 x0 6) fun v7 =>
    bd (stF h1 2 x0 6 (.int (v7 - (1 : Int32)))) fun h8 =>
    f_X3_undo_l30 NN x0 (0 : Int32) h8
  )
theorem v_X3_undo (D : va_G) (l : Launch) (hl : l.stackTraces = false) (as : List Value) (h0 : AH) {r : Int32} {hF : AH} (x0 : Nat) (h : AH) (e : f_X3_undo x0 h = some (r, hF)) : V (G_X3_undo D l as h0 hF (oI r)) h 0 [(0, .ref x0)] [] := by
  unfold f_X3_undo at e
  refine v_aload_n (pc' := 1) hc_X3_undo dX3_undo_0 rfl rfl 0 rfl ?_
  refine v_iconst (pc' := 2) (v := 0) hc_X3_undo dX3_undo_1 rfl rfl ?_
  refine v_pf (pc' := 5) hc_X3_undo ho_X3_undo KX3 0 (Nat.le_of_ble_eq_true rfl) q2242 (Or.inl rfl) rfl dX3_undo_2 rfl rfl rfl e (fun h1 _ e => ?_)
  refine v_aload_n (pc' := 6) hc_X3_undo dX3_undo_5 rfl rfl 0 rfl ?_
  refine v_gfI (pc' := 9) hc_X3_undo ho_X3_undo KX3 6 (Nat.le_of_ble_eq_true rfl) q2248 (Or.inl rfl) dX3_undo_6 rfl e (fun v2 _ e => ?_)
  refine v_if_ne (pt := 18) (pf := 12) hc_X3_undo dX3_undo_9 rfl rfl e (fun _ e => ?_) (fun _ e => ?_)
  · refine v_aload_n (pc' := 13) hc_X3_undo dX3_undo_12 rfl rfl 0 rfl ?_
    refine v_iconst (pc' := 14) (v := 1) hc_X3_undo dX3_undo_13 rfl rfl ?_
    obtain ⟨c3, e⟩ := gd_of e
    obtain ⟨r4, h5, e6, e⟩ := bd2_of e
    refine k_V (pc' := 17) (ci := 2) (n := 1) hc_X3_undo ho_X3_undo rfl c3 (w_X3_fails D l hl x0 (1 : Int32) h1 e6) (wA_l q2351) q2353 (wA_l qs30) q85 q2354 hy_119 ⟨Nat.le_of_ble_eq_true rfl, Nat.le_of_ble_eq_true rfl⟩ rfl rfl (Nat.le_of_ble_eq_true rfl) dX3_undo_14 rfl (kS ?_) kN
    obtain ⟨rfl, rfl⟩ := ret_of e
    exact v_iret hc_X3_undo rfl dX3_undo_17 rfl rfl
  · refine v_aload_n (pc' := 19) hc_X3_undo dX3_undo_18 rfl rfl 0 rfl ?_
    refine v_dup (pc' := 20) hc_X3_undo dX3_undo_19 rfl rfl ?_
    refine v_gfI (pc' := 23) hc_X3_undo ho_X3_undo KX3 6 (Nat.le_of_ble_eq_true rfl) q2248 (Or.inl rfl) dX3_undo_20 rfl e (fun v7 _ e => ?_)
    refine v_iconst (pc' := 24) (v := 1) hc_X3_undo dX3_undo_23 rfl rfl ?_
    refine v_isub (pc' := 25) hc_X3_undo dX3_undo_24 rfl ?_
    refine v_pf (pc' := 28) hc_X3_undo ho_X3_undo KX3 6 (Nat.le_of_ble_eq_true rfl) q2248 (Or.inl rfl) rfl dX3_undo_25 rfl rfl rfl e (fun h8 _ e => ?_)
    refine v_iconst (pc' := 29) (v := 0) hc_X3_undo dX3_undo_28 rfl rfl ?_
    refine v_istore_n (pc' := 30) (lv' := [(1, .int (0 : Int32)), (0, .ref x0)]) hc_X3_undo dX3_undo_29 rfl rfl (Nat.le_of_ble_eq_true rfl) rfl ?_
    refine v_pick [1, 0] rfl ?_
    exact w_X3_undo_l30 D l hl as h0 NN x0 (0 : Int32) h8 e
theorem w_X3_undo (D : va_G) (l : Launch) (hl : l.stackTraces = false) (x0 : Nat) (h : AH) {r : Int32} {hF : AH} (e : f_X3_undo x0 h = some (r, hF)) : MetV D l yX3_undo (Cond.code yX3_undo cX3_undo 2 (Option.some .int)) 2 69 [.ref x0] h hF (oI r) :=
  met_ofF (by decide +kernel) hl (Nat.le_of_ble_eq_true rfl) rfl (v_X3_undo D l hl [.ref x0] h x0 h e)
/-! BlockPapersModel.saveSnapshot()I  -/
abbrev G_X3_saveSnapshot (D : va_G) (l : Launch) (as : List Value) (h0 hF : AH) (o : Out) : CT := (D, l, (yX3_saveSnapshot.cls, yX3_saveSnapshot, cX3_saveSnapshot, 2, (Option.some .int), 1, 48, []), as, h0, hF, o)
theorem hc_X3_saveSnapshot {D : va_G} {l : Launch} {as : List Value} {h0 hF : AH} {o : Out} : gC (G_X3_saveSnapshot D l as h0 hF o) = cX3_saveSnapshot := rfl
theorem ho_X3_saveSnapshot {D : va_G} {l : Launch} {as : List Value} {h0 hF : AH} {o : Out} : gO (G_X3_saveSnapshot D l as h0 hF o) = "BlockPapersModel" := rfl
theorem hp_X3_saveSnapshot {D : va_G} {l : Launch} {as : List Value} {h0 hF : AH} {o : Out} (pc : Nat) : ∀ z ∈ tableOf (gHd (G_X3_saveSnapshot D l as h0 hF o)), covers z pc = false := hpN
def fb_X3_saveSnapshot_l7 (rec : Nat → Int32 → AH → Option (Int32 × AH)) (x0 : Nat) (x1 : Int32) (h : AH) : Option (Int32 × AH) :=
  if (793 : Int32) ≤ x1 then (
    bd (stF h 2 x0 7 (.int (1 : Int32))) fun h1 =>
    bd (gtR h1 2 x0 1) fun v2 =>
    bd (ldI h1 0 v2 (2 : Int32)) fun v3 =>
    some (v3, h1)
  ) else (
    bd (gtR h 2 x0 3) fun v4 =>
    bd (gtR h 2 x0 1) fun v5 =>
    bd (ldI h 0 v5 x1) fun v6 =>
    bd (stI h v4 x1 v6) fun h7 =>
    rec x0 (x1 + 1) h7
  )
def f_X3_saveSnapshot_l7 : Nat → Nat → Int32 → AH → Option (Int32 × AH)
  | 0 => fun _ _ _ => none
  | n + 1 => fb_X3_saveSnapshot_l7 (f_X3_saveSnapshot_l7 n) 
theorem w_X3_saveSnapshot_l7 (D : va_G) (l : Launch) (hl : l.stackTraces = false) (as : List Value) (h0 : AH) {r : Int32} {hF : AH} : ∀ (n : Nat) (x0 : Nat) (x1 : Int32) (h : AH), f_X3_saveSnapshot_l7 n x0 x1 h = some (r, hF) → V (G_X3_saveSnapshot D l as h0 hF (oI r)) h 7 [(0, .ref x0), (1, .int x1)] [] := by
  intro n; induction n with
  | zero => intro x0 x1 h e; exact absurd (show (none : Option (Int32 × AH)) = some _ from e) (fun z => nomatch z)
  | succ n IH =>
    intro x0 x1 h e
    have e : fb_X3_saveSnapshot_l7 (f_X3_saveSnapshot_l7 n) x0 x1 h = some (r, hF) := e
    unfold fb_X3_saveSnapshot_l7 at e
    refine v_iload_n (pc' := 8) hc_X3_saveSnapshot dX3_saveSnapshot_7 rfl rfl 1 rfl ?_
    refine v_sipush (pc' := 11) (v := 793) hc_X3_saveSnapshot dX3_saveSnapshot_8 rfl rfl ?_
    refine v_icmp_ge (pt := 32) (pf := 14) hc_X3_saveSnapshot dX3_saveSnapshot_11 rfl rfl e (fun _ e => ?_) (fun _ e => ?_)
    · refine v_aload_n (pc' := 33) hc_X3_saveSnapshot dX3_saveSnapshot_32 rfl rfl 0 rfl ?_
      refine v_iconst (pc' := 34) (v := 1) hc_X3_saveSnapshot dX3_saveSnapshot_33 rfl rfl ?_
      refine v_pf (pc' := 37) hc_X3_saveSnapshot ho_X3_saveSnapshot KX3 7 (Nat.le_of_ble_eq_true rfl) q2249 (Or.inl rfl) rfl dX3_saveSnapshot_34 rfl rfl rfl e (fun h1 _ e => ?_)
      refine v_aload_n (pc' := 38) hc_X3_saveSnapshot dX3_saveSnapshot_37 rfl rfl 0 rfl ?_
      refine v_gfR (pc' := 41) hc_X3_saveSnapshot ho_X3_saveSnapshot KX3 1 (Nat.le_of_ble_eq_true rfl) q2243 (Or.inl rfl) dX3_saveSnapshot_38 rfl e (fun v2 _ e => ?_)
      refine v_iconst (pc' := 42) (v := 2) hc_X3_saveSnapshot dX3_saveSnapshot_41 rfl rfl ?_
      refine v_iald (pc' := 43) hc_X3_saveSnapshot dX3_saveSnapshot_42 rfl e (fun v3 _ e => ?_)
      obtain ⟨rfl, rfl⟩ := ret_of e
      exact v_iret hc_X3_saveSnapshot rfl dX3_saveSnapshot_43 rfl rfl
    · refine v_aload_n (pc' := 15) hc_X3_saveSnapshot dX3_saveSnapshot_14 rfl rfl 0 rfl ?_
      refine v_gfR (pc' := 18) hc_X3_saveSnapshot ho_X3_saveSnapshot KX3 3 (Nat.le_of_ble_eq_true rfl) q2245 (Or.inl rfl) dX3_saveSnapshot_15 rfl e (fun v4 _ e => ?_)
      refine v_iload_n (pc' := 19) hc_X3_saveSnapshot dX3_saveSnapshot_18 rfl rfl 1 rfl ?_
      refine v_aload_n (pc' := 20) hc_X3_saveSnapshot dX3_saveSnapshot_19 rfl rfl 0 rfl ?_
      refine v_gfR (pc' := 23) hc_X3_saveSnapshot ho_X3_saveSnapshot KX3 1 (Nat.le_of_ble_eq_true rfl) q2243 (Or.inl rfl) dX3_saveSnapshot_20 rfl e (fun v5 _ e => ?_)
      refine v_iload_n (pc' := 24) hc_X3_saveSnapshot dX3_saveSnapshot_23 rfl rfl 1 rfl ?_
      refine v_iald (pc' := 25) hc_X3_saveSnapshot dX3_saveSnapshot_24 rfl e (fun v6 _ e => ?_)
      refine v_iast (pc' := 26) hc_X3_saveSnapshot dX3_saveSnapshot_25 rfl e (fun h7 _ e => ?_)
      refine v_iinc (pc' := 29) (lv' := [(1, .int (x1 + 1)), (0, .ref x0)]) (v := x1 + 1) hc_X3_saveSnapshot dX3_saveSnapshot_26 rfl 1 rfl rfl (Nat.le_of_ble_eq_true rfl) rfl ?_
      refine v_goto (pt := 7) hc_X3_saveSnapshot dX3_saveSnapshot_29 rfl ?_
      refine v_pick [1, 0] rfl ?_
      exact IH x0 (x1 + 1) h7 e
def f_X3_saveSnapshot (x0 : Nat) (h : AH) : Option (Int32 × AH) :=
  bd (stF h 2 x0 0 (.int (0 : Int32))) fun h1 =>
  f_X3_saveSnapshot_l7 NN x0 (0 : Int32) h1
theorem v_X3_saveSnapshot (D : va_G) (l : Launch) (hl : l.stackTraces = false) (as : List Value) (h0 : AH) {r : Int32} {hF : AH} (x0 : Nat) (h : AH) (e : f_X3_saveSnapshot x0 h = some (r, hF)) : V (G_X3_saveSnapshot D l as h0 hF (oI r)) h 0 [(0, .ref x0)] [] := by
  unfold f_X3_saveSnapshot at e
  refine v_aload_n (pc' := 1) hc_X3_saveSnapshot dX3_saveSnapshot_0 rfl rfl 0 rfl ?_
  refine v_iconst (pc' := 2) (v := 0) hc_X3_saveSnapshot dX3_saveSnapshot_1 rfl rfl ?_
  refine v_pf (pc' := 5) hc_X3_saveSnapshot ho_X3_saveSnapshot KX3 0 (Nat.le_of_ble_eq_true rfl) q2242 (Or.inl rfl) rfl dX3_saveSnapshot_2 rfl rfl rfl e (fun h1 _ e => ?_)
  refine v_iconst (pc' := 6) (v := 0) hc_X3_saveSnapshot dX3_saveSnapshot_5 rfl rfl ?_
  refine v_istore_n (pc' := 7) (lv' := [(1, .int (0 : Int32)), (0, .ref x0)]) hc_X3_saveSnapshot dX3_saveSnapshot_6 rfl rfl (Nat.le_of_ble_eq_true rfl) rfl ?_
  refine v_pick [1, 0] rfl ?_
  exact w_X3_saveSnapshot_l7 D l hl as h0 NN x0 (0 : Int32) h1 e
theorem w_X3_saveSnapshot (D : va_G) (l : Launch) (hl : l.stackTraces = false) (x0 : Nat) (h : AH) {r : Int32} {hF : AH} (e : f_X3_saveSnapshot x0 h = some (r, hF)) : MetV D l yX3_saveSnapshot (Cond.code yX3_saveSnapshot cX3_saveSnapshot 2 (Option.some .int)) 1 48 [.ref x0] h hF (oI r) :=
  met_ofF (by decide +kernel) hl (Nat.le_of_ble_eq_true rfl) rfl (v_X3_saveSnapshot D l hl [.ref x0] h x0 h e)
/-! BlockPapersModel.restoreSnapshot()I  -/
abbrev G_X3_restoreSnapshot (D : va_G) (l : Launch) (as : List Value) (h0 hF : AH) (o : Out) : CT := (D, l, (yX3_restoreSnapshot.cls, yX3_restoreSnapshot, cX3_restoreSnapshot, 2, (Option.some .int), 2, 69, []), as, h0, hF, o)
theorem hc_X3_restoreSnapshot {D : va_G} {l : Launch} {as : List Value} {h0 hF : AH} {o : Out} : gC (G_X3_restoreSnapshot D l as h0 hF o) = cX3_restoreSnapshot := rfl
theorem ho_X3_restoreSnapshot {D : va_G} {l : Launch} {as : List Value} {h0 hF : AH} {o : Out} : gO (G_X3_restoreSnapshot D l as h0 hF o) = "BlockPapersModel" := rfl
theorem hp_X3_restoreSnapshot {D : va_G} {l : Launch} {as : List Value} {h0 hF : AH} {o : Out} (pc : Nat) : ∀ z ∈ tableOf (gHd (G_X3_restoreSnapshot D l as h0 hF o)), covers z pc = false := hpN
def fb_X3_restoreSnapshot_l20 (rec : Nat → Int32 → AH → Option (Int32 × AH)) (x0 : Nat) (x1 : Int32) (h : AH) : Option (Int32 × AH) :=
  if (793 : Int32) ≤ x1 then (
    bd (stF h 2 x0 6 (.int (0 : Int32))) fun h1 =>
    bd (gtR h1 2 x0 1) fun v2 =>
    bd (ldI h1 0 v2 (2 : Int32)) fun v3 =>
    some (v3, h1)
  ) else (
    bd (gtR h 2 x0 1) fun v4 =>
    bd (gtR h 2 x0 3) fun v5 =>
    bd (ldI h 0 v5 x1) fun v6 =>
    bd (stI h v4 x1 v6) fun h7 =>
    rec x0 (x1 + 1) h7
  )
def f_X3_restoreSnapshot_l20 : Nat → Nat → Int32 → AH → Option (Int32 × AH)
  | 0 => fun _ _ _ => none
  | n + 1 => fb_X3_restoreSnapshot_l20 (f_X3_restoreSnapshot_l20 n) 
theorem w_X3_restoreSnapshot_l20 (D : va_G) (l : Launch) (hl : l.stackTraces = false) (as : List Value) (h0 : AH) {r : Int32} {hF : AH} : ∀ (n : Nat) (x0 : Nat) (x1 : Int32) (h : AH), f_X3_restoreSnapshot_l20 n x0 x1 h = some (r, hF) → V (G_X3_restoreSnapshot D l as h0 hF (oI r)) h 20 [(0, .ref x0), (1, .int x1)] [] := by
  intro n; induction n with
  | zero => intro x0 x1 h e; exact absurd (show (none : Option (Int32 × AH)) = some _ from e) (fun z => nomatch z)
  | succ n IH =>
    intro x0 x1 h e
    have e : fb_X3_restoreSnapshot_l20 (f_X3_restoreSnapshot_l20 n) x0 x1 h = some (r, hF) := e
    unfold fb_X3_restoreSnapshot_l20 at e
    refine v_iload_n (pc' := 21) hc_X3_restoreSnapshot dX3_restoreSnapshot_20 rfl rfl 1 rfl ?_
    refine v_sipush (pc' := 24) (v := 793) hc_X3_restoreSnapshot dX3_restoreSnapshot_21 rfl rfl ?_
    refine v_icmp_ge (pt := 45) (pf := 27) hc_X3_restoreSnapshot dX3_restoreSnapshot_24 rfl rfl e (fun _ e => ?_) (fun _ e => ?_)
    · refine v_aload_n (pc' := 46) hc_X3_restoreSnapshot dX3_restoreSnapshot_45 rfl rfl 0 rfl ?_
      refine v_iconst (pc' := 47) (v := 0) hc_X3_restoreSnapshot dX3_restoreSnapshot_46 rfl rfl ?_
      refine v_pf (pc' := 50) hc_X3_restoreSnapshot ho_X3_restoreSnapshot KX3 6 (Nat.le_of_ble_eq_true rfl) q2248 (Or.inl rfl) rfl dX3_restoreSnapshot_47 rfl rfl rfl e (fun h1 _ e => ?_)
      refine v_aload_n (pc' := 51) hc_X3_restoreSnapshot dX3_restoreSnapshot_50 rfl rfl 0 rfl ?_
      refine v_gfR (pc' := 54) hc_X3_restoreSnapshot ho_X3_restoreSnapshot KX3 1 (Nat.le_of_ble_eq_true rfl) q2243 (Or.inl rfl) dX3_restoreSnapshot_51 rfl e (fun v2 _ e => ?_)
      refine v_iconst (pc' := 55) (v := 2) hc_X3_restoreSnapshot dX3_restoreSnapshot_54 rfl rfl ?_
      refine v_iald (pc' := 56) hc_X3_restoreSnapshot dX3_restoreSnapshot_55 rfl e (fun v3 _ e => ?_)
      obtain ⟨rfl, rfl⟩ := ret_of e
      exact v_iret hc_X3_restoreSnapshot rfl dX3_restoreSnapshot_56 rfl rfl
    · refine v_aload_n (pc' := 28) hc_X3_restoreSnapshot dX3_restoreSnapshot_27 rfl rfl 0 rfl ?_
      refine v_gfR (pc' := 31) hc_X3_restoreSnapshot ho_X3_restoreSnapshot KX3 1 (Nat.le_of_ble_eq_true rfl) q2243 (Or.inl rfl) dX3_restoreSnapshot_28 rfl e (fun v4 _ e => ?_)
      refine v_iload_n (pc' := 32) hc_X3_restoreSnapshot dX3_restoreSnapshot_31 rfl rfl 1 rfl ?_
      refine v_aload_n (pc' := 33) hc_X3_restoreSnapshot dX3_restoreSnapshot_32 rfl rfl 0 rfl ?_
      refine v_gfR (pc' := 36) hc_X3_restoreSnapshot ho_X3_restoreSnapshot KX3 3 (Nat.le_of_ble_eq_true rfl) q2245 (Or.inl rfl) dX3_restoreSnapshot_33 rfl e (fun v5 _ e => ?_)
      refine v_iload_n (pc' := 37) hc_X3_restoreSnapshot dX3_restoreSnapshot_36 rfl rfl 1 rfl ?_
      refine v_iald (pc' := 38) hc_X3_restoreSnapshot dX3_restoreSnapshot_37 rfl e (fun v6 _ e => ?_)
      refine v_iast (pc' := 39) hc_X3_restoreSnapshot dX3_restoreSnapshot_38 rfl e (fun h7 _ e => ?_)
      refine v_iinc (pc' := 42) (lv' := [(1, .int (x1 + 1)), (0, .ref x0)]) (v := x1 + 1) hc_X3_restoreSnapshot dX3_restoreSnapshot_39 rfl 1 rfl rfl (Nat.le_of_ble_eq_true rfl) rfl ?_
      refine v_goto (pt := 20) hc_X3_restoreSnapshot dX3_restoreSnapshot_42 rfl ?_
      refine v_pick [1, 0] rfl ?_
      exact IH x0 (x1 + 1) h7 e
def f_X3_restoreSnapshot (x0 : Nat) (h : AH) : Option (Int32 × AH) :=
  bd (stF h 2 x0 0 (.int (0 : Int32))) fun h1 =>
  bd (gtI h1 2 x0 7) fun v2 =>
  if v2 = 0 then (
    gd (isC h1 2 x0) <|
    bd2 (f_X3_fails x0 (1 : Int32) h1) fun r4 h5 =>
    some (r4, h5)
  ) else (
    f_X3_restoreSnapshot_l20 NN x0 (0 : Int32) h1
  )
theorem v_X3_restoreSnapshot (D : va_G) (l : Launch) (hl : l.stackTraces = false) (as : List Value) (h0 : AH) {r : Int32} {hF : AH} (x0 : Nat) (h : AH) (e : f_X3_restoreSnapshot x0 h = some (r, hF)) : V (G_X3_restoreSnapshot D l as h0 hF (oI r)) h 0 [(0, .ref x0)] [] := by
  unfold f_X3_restoreSnapshot at e
  refine v_aload_n (pc' := 1) hc_X3_restoreSnapshot dX3_restoreSnapshot_0 rfl rfl 0 rfl ?_
  refine v_iconst (pc' := 2) (v := 0) hc_X3_restoreSnapshot dX3_restoreSnapshot_1 rfl rfl ?_
  refine v_pf (pc' := 5) hc_X3_restoreSnapshot ho_X3_restoreSnapshot KX3 0 (Nat.le_of_ble_eq_true rfl) q2242 (Or.inl rfl) rfl dX3_restoreSnapshot_2 rfl rfl rfl e (fun h1 _ e => ?_)
  refine v_aload_n (pc' := 6) hc_X3_restoreSnapshot dX3_restoreSnapshot_5 rfl rfl 0 rfl ?_
  refine v_gfI (pc' := 9) hc_X3_restoreSnapshot ho_X3_restoreSnapshot KX3 7 (Nat.le_of_ble_eq_true rfl) q2249 (Or.inl rfl) dX3_restoreSnapshot_6 rfl e (fun v2 _ e => ?_)
  refine v_if_ne (pt := 18) (pf := 12) hc_X3_restoreSnapshot dX3_restoreSnapshot_9 rfl rfl e (fun _ e => ?_) (fun _ e => ?_)
  · refine v_aload_n (pc' := 13) hc_X3_restoreSnapshot dX3_restoreSnapshot_12 rfl rfl 0 rfl ?_
    refine v_iconst (pc' := 14) (v := 1) hc_X3_restoreSnapshot dX3_restoreSnapshot_13 rfl rfl ?_
    obtain ⟨c3, e⟩ := gd_of e
    obtain ⟨r4, h5, e6, e⟩ := bd2_of e
    refine k_V (pc' := 17) (ci := 2) (n := 1) hc_X3_restoreSnapshot ho_X3_restoreSnapshot rfl c3 (w_X3_fails D l hl x0 (1 : Int32) h1 e6) (wA_l q2351) q2353 (wA_l qs30) q85 q2354 hy_119 ⟨Nat.le_of_ble_eq_true rfl, Nat.le_of_ble_eq_true rfl⟩ rfl rfl (Nat.le_of_ble_eq_true rfl) dX3_restoreSnapshot_14 rfl (kS ?_) kN
    obtain ⟨rfl, rfl⟩ := ret_of e
    exact v_iret hc_X3_restoreSnapshot rfl dX3_restoreSnapshot_17 rfl rfl
  · refine v_iconst (pc' := 19) (v := 0) hc_X3_restoreSnapshot dX3_restoreSnapshot_18 rfl rfl ?_
    refine v_istore_n (pc' := 20) (lv' := [(1, .int (0 : Int32)), (0, .ref x0)]) hc_X3_restoreSnapshot dX3_restoreSnapshot_19 rfl rfl (Nat.le_of_ble_eq_true rfl) rfl ?_
    refine v_pick [1, 0] rfl ?_
    exact w_X3_restoreSnapshot_l20 D l hl as h0 NN x0 (0 : Int32) h1 e
theorem w_X3_restoreSnapshot (D : va_G) (l : Launch) (hl : l.stackTraces = false) (x0 : Nat) (h : AH) {r : Int32} {hF : AH} (e : f_X3_restoreSnapshot x0 h = some (r, hF)) : MetV D l yX3_restoreSnapshot (Cond.code yX3_restoreSnapshot cX3_restoreSnapshot 2 (Option.some .int)) 2 69 [.ref x0] h hF (oI r) :=
  met_ofF (by decide +kernel) hl (Nat.le_of_ble_eq_true rfl) rfl (v_X3_restoreSnapshot D l hl [.ref x0] h x0 h e)
