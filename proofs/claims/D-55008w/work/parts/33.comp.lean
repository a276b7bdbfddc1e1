/-! walks (printed by gen/printall.py) -/
set_option maxRecDepth 100000
set_option maxHeartbeats 1000000
/-! BlockPapers$Workshop.<init>()V  -/
abbrev G_X2_init (D : va_G) (l : Launch) (as : List Value) (h0 hF : AH) (o : Out) : CT := (D, l, (yX2_init.cls, yX2_init, cX2_init, 1, (Option.none : Option FieldType), 4, 108, []), as, h0, hF, o)
theorem hc_X2_init {D : va_G} {l : Launch} {as : List Value} {h0 hF : AH} {o : Out} : gC (G_X2_init D l as h0 hF o) = cX2_init := rfl
theorem ho_X2_init {D : va_G} {l : Launch} {as : List Value} {h0 hF : AH} {o : Out} : gO (G_X2_init D l as h0 hF o) = "BlockPapers$Workshop" := rfl
theorem hp_X2_init {D : va_G} {l : Launch} {as : List Value} {h0 hF : AH} {o : Out} (pc : Nat) : ∀ z ∈ tableOf (gHd (G_X2_init D l as h0 hF o)), covers z pc = false := hpN
def f_X2_init (x0 : Nat) (h : AH) : Option (Unit × AH) :=
  bd2 (nwX h 16 3 fsJ2) fun a2 h1 =>
  bd2 (f_J2_init a2 h1) fun r3 h4 =>
  bd (stF h4 1 x0 0 (.ref a2)) fun h6 =>
  bd2 (nwX h6 16 3 fsJ2) fun a8 h7 =>
  bd2 (f_J2_init a8 h7) fun r9 h10 =>
  bd (stF h10 1 x0 1 (.ref a8)) fun h12 =>
  bd2 (nwX h12 16 3 fsJ2) fun a14 h13 =>
  bd2 (f_J2_init a14 h13) fun r15 h16 =>
  bd (stF h16 1 x0 2 (.ref a14)) fun h18 =>
  bd2 (nwX h18 16 3 fsJ2) fun a20 h19 =>
  bd2 (f_J2_init a20 h19) fun r21 h22 =>
  bd (stF h22 1 x0 3 (.ref a20)) fun h24 =>
  some ((), h24)
theorem v_X2_init (D : va_G) (l : Launch) (hl : l.stackTraces = false) (as : List Value) (h0 : AH) {r : Unit} {hF : AH} (x0 : Nat) (h : AH) (e : f_X2_init x0 h = some (r, hF)) : V (G_X2_init D l as h0 hF (oV r)) h 0 [(0, .ref x0)] [] := by
  unfold f_X2_init at e
  refine v_aload_n (pc' := 1) hc_X2_init dX2_init_0 rfl rfl 0 rfl ?_
  refine v_oinit (pc' := 4) hc_X2_init ho_X2_init q134 q127 q128 ⟨Nat.le_of_ble_eq_true rfl, Nat.le_of_ble_eq_true rfl⟩ dX2_init_1 rfl ?_
  refine v_aload_n (pc' := 5) hc_X2_init dX2_init_4 rfl rfl 0 rfl ?_
  refine v_newX (pc' := 8) hc_X2_init ho_X2_init KJ2 q135 q136 q79 rfl dfJ2 dX2_init_5 rfl e (fun a2 h1 _ e => ?_)
  refine v_dup (pc' := 9) hc_X2_init dX2_init_8 rfl rfl ?_
  obtain ⟨r3, h4, e5, e⟩ := bd2_of e
  refine k_I (pc' := 12) (n := 0) hc_X2_init ho_X2_init (w_J2_init D l hl a2 h1 e5) (wA_l q137) q138 q79 q139 rfl hy_2 ⟨Nat.le_of_ble_eq_true rfl, Nat.le_of_ble_eq_true rfl⟩ rfl rfl (Nat.le_of_ble_eq_true rfl) dX2_init_9 rfl (kU ?_) kN
  refine v_pfF (pc' := 15) hc_X2_init ho_X2_init rfl KX2 0 (Nat.le_of_ble_eq_true rfl) q164 rfl rfl rfl dX2_init_12 rfl rfl rfl e (fun h6 _ e => ?_)
  refine v_aload_n (pc' := 16) hc_X2_init dX2_init_15 rfl rfl 0 rfl ?_
  refine v_newX (pc' := 19) hc_X2_init ho_X2_init KJ2 q135 q136 q79 rfl dfJ2 dX2_init_16 rfl e (fun a8 h7 _ e => ?_)
  refine v_dup (pc' := 20) hc_X2_init dX2_init_19 rfl rfl ?_
  obtain ⟨r9, h10, e11, e⟩ := bd2_of e
  refine k_I (pc' := 23) (n := 0) hc_X2_init ho_X2_init (w_J2_init D l hl a8 h7 e11) (wA_l q137) q138 q79 q139 rfl hy_2 ⟨Nat.le_of_ble_eq_true rfl, Nat.le_of_ble_eq_true rfl⟩ rfl rfl (Nat.le_of_ble_eq_true rfl) dX2_init_20 rfl (kU ?_) kN
  refine v_pfF (pc' := 26) hc_X2_init ho_X2_init rfl KX2 1 (Nat.le_of_ble_eq_true rfl) q166 rfl rfl rfl dX2_init_23 rfl rfl rfl e (fun h12 _ e => ?_)
  refine v_aload_n (pc' := 27) hc_X2_init dX2_init_26 rfl rfl 0 rfl ?_
  refine v_newX (pc' := 30) hc_X2_init ho_X2_init KJ2 q135 q136 q79 rfl dfJ2 dX2_init_27 rfl e (fun a14 h13 _ e => ?_)
  refine v_dup (pc' := 31) hc_X2_init dX2_init_30 rfl rfl ?_
  obtain ⟨r15, h16, e17, e⟩ := bd2_of e
  refine k_I (pc' := 34) (n := 0) hc_X2_init ho_X2_init (w_J2_init D l hl a14 h13 e17) (wA_l q137) q138 q79 q139 rfl hy_2 ⟨Nat.le_of_ble_eq_true rfl, Nat.le_of_ble_eq_true rfl⟩ rfl rfl (Nat.le_of_ble_eq_true rfl) dX2_init_31 rfl (kU ?_) kN
  refine v_pfF (pc' := 37) hc_X2_init ho_X2_init rfl KX2 2 (Nat.le_of_ble_eq_true rfl) q169 rfl rfl rfl dX2_init_34 rfl rfl rfl e (fun h18 _ e => ?_)
  refine v_aload_n (pc' := 38) hc_X2_init dX2_init_37 rfl rfl 0 rfl ?_
  refine v_newX (pc' := 41) hc_X2_init ho_X2_init KJ2 q135 q136 q79 rfl dfJ2 dX2_init_38 rfl e (fun a20 h19 _ e => ?_)
  refine v_dup (pc' := 42) hc_X2_init dX2_init_41 rfl rfl ?_
  obtain ⟨r21, h22, e23, e⟩ := bd2_of e
  refine k_I (pc' := 45) (n := 0) hc_X2_init ho_X2_init (w_J2_init D l hl a20 h19 e23) (wA_l q137) q138 q79 q139 rfl hy_2 ⟨Nat.le_of_ble_eq_true rfl, Nat.le_of_ble_eq_true rfl⟩ rfl rfl (Nat.le_of_ble_eq_true rfl) dX2_init_42 rfl (kU ?_) kN
  refine v_pfF (pc' := 48) hc_X2_init ho_X2_init rfl KX2 3 (Nat.le_of_ble_eq_true rfl) q171 rfl rfl rfl dX2_init_45 rfl rfl rfl e (fun h24 _ e => ?_)
  obtain ⟨rfl, rfl⟩ := ret_of e
  exact v_ret hc_X2_init rfl dX2_init_48 rfl rfl
theorem w_X2_init (D : va_G) (l : Launch) (hl : l.stackTraces = false) (x0 : Nat) (h : AH) {r : Unit} {hF : AH} (e : f_X2_init x0 h = some (r, hF)) : MetV D l yX2_init (Cond.code yX2_init cX2_init 1 (Option.none : Option FieldType)) 4 108 [.ref x0] h hF (oV r) :=
  met_ofF (by decide +kernel) hl (Nat.le_of_ble_eq_true rfl) rfl (v_X2_init D l hl [.ref x0] h x0 h e)
/-! BlockPapers.<init>()V  -/
abbrev G_X1_init (D : va_G) (l : Launch) (as : List Value) (h0 hF : AH) (o : Out) : CT := (D, l, (yX1_init.cls, yX1_init, cX1_init, 1, (Option.none : Option FieldType), 5, 128, []), as, h0, hF, o)
theorem hc_X1_init {D : va_G} {l : Launch} {as : List Value} {h0 hF : AH} {o : Out} : gC (G_X1_init D l as h0 hF o) = cX1_init := rfl
theorem ho_X1_init {D : va_G} {l : Launch} {as : List Value} {h0 hF : AH} {o : Out} : gO (G_X1_init D l as h0 hF o) = "BlockPapers" := rfl
theorem hp_X1_init {D : va_G} {l : Launch} {as : List Value} {h0 hF : AH} {o : Out} (pc : Nat) : ∀ z ∈ tableOf (gHd (G_X1_init D l as h0 hF o)), covers z pc = false := hpN
def f_X1_init (x0 : Nat) (h : AH) : Option (Unit × AH) :=
  bd2 (nwX h 1 4 fsX2) fun a2 h1 =>
  bd2 (f_X2_init a2 h1) fun r3 h4 =>
  bd (stF h4 0 x0 0 (.ref a2)) fun h6 =>
  bd2 (nwX h6 17 3 fsJ3) fun a8 h7 =>
  bd2 (f_J3_init a8 h7) fun r9 h10 =>
  bd (stF h10 0 x0 1 (.ref a8)) fun h12 =>
  bd2 (nwX h12 18 4 fsJ5) fun a14 h13 =>
  bd2 (f_J5_init a14 h13) fun r15 h16 =>
  bd (stF h16 0 x0 2 (.ref a14)) fun h18 =>
  bd (aE h18 100) fun v19 =>
  bd (stF h18 0 x0 3 (.ref v19)) fun h20 =>
  bd (stF h20 0 x0 4 (.int (-1 : Int32))) fun h21 =>
  some ((), h21)
theorem v_X1_init (D : va_G) (l : Launch) (hl : l.stackTraces = false) (as : List Value) (h0 : AH) {r : Unit} {hF : AH} (x0 : Nat) (h : AH) (e : f_X1_init x0 h = some (r, hF)) : V (G_X1_init D l as h0 hF (oV r)) h 0 [(0, .ref x0)] [] := by
  unfold f_X1_init at e
  refine v_aload_n (pc' := 1) hc_X1_init dX1_init_0 rfl rfl 0 rfl ?_
  refine v_oinit (pc' := 4) hc_X1_init ho_X1_init q126 q127 q128 ⟨Nat.le_of_ble_eq_true rfl, Nat.le_of_ble_eq_true rfl⟩ dX1_init_1 rfl ?_
  refine v_aload_n (pc' := 5) hc_X1_init dX1_init_4 rfl rfl 0 rfl ?_
  refine v_newX (pc' := 8) hc_X1_init ho_X1_init KX2 q129 q130 q76 rfl dfX2 dX1_init_5 rfl e (fun a2 h1 _ e => ?_)
  refine v_dup (pc' := 9) hc_X1_init dX1_init_8 rfl rfl ?_
  obtain ⟨r3, h4, e5, e⟩ := bd2_of e
  refine k_I (pc' := 12) (n := 0) hc_X1_init ho_X1_init (w_X2_init D l hl a2 h1 e5) (wA_l q131) q132 q76 q133 rfl hy_3 ⟨Nat.le_of_ble_eq_true rfl, Nat.le_of_ble_eq_true rfl⟩ rfl rfl (Nat.le_of_ble_eq_true rfl) dX1_init_9 rfl (kU ?_) kN
  refine v_pf (pc' := 15) hc_X1_init ho_X1_init KX1 0 (Nat.le_of_ble_eq_true rfl) q235 (Or.inl rfl) rfl dX1_init_12 rfl rfl rfl e (fun h6 _ e => ?_)
  refine v_aload_n (pc' := 16) hc_X1_init dX1_init_15 rfl rfl 0 rfl ?_
  refine v_newX (pc' := 19) hc_X1_init ho_X1_init KJ3 q183 q184 q80 rfl dfJ3 dX1_init_16 rfl e (fun a8 h7 _ e => ?_)
  refine v_dup (pc' := 20) hc_X1_init dX1_init_19 rfl rfl ?_
  obtain ⟨r9, h10, e11, e⟩ := bd2_of e
  refine k_I (pc' := 23) (n := 0) hc_X1_init ho_X1_init (w_J3_init D l hl a8 h7 e11) (wA_l q185) q186 q80 q187 rfl hy_4 ⟨Nat.le_of_ble_eq_true rfl, Nat.le_of_ble_eq_true rfl⟩ rfl rfl (Nat.le_of_ble_eq_true rfl) dX1_init_20 rfl (kU ?_) kN
  refine v_pfF (pc' := 26) hc_X1_init ho_X1_init rfl KX1 1 (Nat.le_of_ble_eq_true rfl) q236 rfl rfl rfl dX1_init_23 rfl rfl rfl e (fun h12 _ e => ?_)
  refine v_aload_n (pc' := 27) hc_X1_init dX1_init_26 rfl rfl 0 rfl ?_
  refine v_newX (pc' := 30) hc_X1_init ho_X1_init KJ5 q201 q202 q82 rfl dfJ5 dX1_init_27 rfl e (fun a14 h13 _ e => ?_)
  refine v_dup (pc' := 31) hc_X1_init dX1_init_30 rfl rfl ?_
  obtain ⟨r15, h16, e17, e⟩ := bd2_of e
  refine k_I (pc' := 34) (n := 0) hc_X1_init ho_X1_init (w_J5_init D l hl a14 h13 e17) (wA_l q203) q204 q82 q205 rfl hy_6 ⟨Nat.le_of_ble_eq_true rfl, Nat.le_of_ble_eq_true rfl⟩ rfl rfl (Nat.le_of_ble_eq_true rfl) dX1_init_31 rfl (kU ?_) kN
  refine v_pfF (pc' := 37) hc_X1_init ho_X1_init rfl KX1 2 (Nat.le_of_ble_eq_true rfl) q238 rfl rfl rfl dX1_init_34 rfl rfl rfl e (fun h18 _ e => ?_)
  refine v_aload_n (pc' := 38) hc_X1_init dX1_init_37 rfl rfl 0 rfl ?_
  refine v_ldcS (pc' := 40) (tx := "") (j := 100) hc_X1_init ho_X1_init (by decide +kernel) dX1_init_38 rfl e (fun v19 _ e => ?_)
  refine v_pf (pc' := 43) hc_X1_init ho_X1_init KX1 3 (Nat.le_of_ble_eq_true rfl) q239 (Or.inl rfl) rfl dX1_init_40 rfl rfl rfl e (fun h20 _ e => ?_)
  refine v_aload_n (pc' := 44) hc_X1_init dX1_init_43 rfl rfl 0 rfl ?_
  refine v_iconst (pc' := 45) (v := (-1)) hc_X1_init dX1_init_44 rfl rfl ?_
  refine v_pf (pc' := 48) hc_X1_init ho_X1_init KX1 4 (Nat.le_of_ble_eq_true rfl) q240 (Or.inl rfl) rfl dX1_init_45 rfl rfl rfl e (fun h21 _ e => ?_)
  obtain ⟨rfl, rfl⟩ := ret_of e
  exact v_ret hc_X1_init rfl dX1_init_48 rfl rfl
theorem w_X1_init (D : va_G) (l : Launch) (hl : l.stackTraces = false) (x0 : Nat) (h : AH) {r : Unit} {hF : AH} (e : f_X1_init x0 h = some (r, hF)) : MetV D l yX1_init (Cond.code yX1_init cX1_init 1 (Option.none : Option FieldType)) 5 128 [.ref x0] h hF (oV r) :=
  met_ofF (by decide +kernel) hl (Nat.le_of_ble_eq_true rfl) rfl (v_X1_init D l hl [.ref x0] h x0 h e)
/-! BlockPapers$Named.<init>(Ljava/lang/String;III)V  -/
abbrev G_X4_init_2 (D : va_G) (l : Launch) (as : List Value) (h0 hF : AH) (o : Out) : CT := (D, l, (yX4_init_2.cls, yX4_init_2, cX4_init_2, 5, (Option.none : Option FieldType), 1, 48, []), as, h0, hF, o)
theorem hc_X4_init_2 {D : va_G} {l : Launch} {as : List Value} {h0 hF : AH} {o : Out} : gC (G_X4_init_2 D l as h0 hF o) = cX4_init_2 := rfl
theorem ho_X4_init_2 {D : va_G} {l : Launch} {as : List Value} {h0 hF : AH} {o : Out} : gO (G_X4_init_2 D l as h0 hF o) = "BlockPapers$Named" := rfl
theorem hp_X4_init_2 {D : va_G} {l : Launch} {as : List Value} {h0 hF : AH} {o : Out} (pc : Nat) : ∀ z ∈ tableOf (gHd (G_X4_init_2 D l as h0 hF o)), covers z pc = false := hpN
def f_X4_init_2 (x0 : Nat) (x1 : Nat) (x2 : Int32) (x3 : Int32) (x4 : Int32) (h : AH) : Option (Unit × AH) :=
  bd (stF h 3 x0 0 (.ref x1)) fun h1 =>
  bd (stF h1 3 x0 1 (.int x2)) fun h2 =>
  bd (stF h2 3 x0 2 (.int x3)) fun h3 =>
  bd (stF h3 3 x0 3 (.int x4)) fun h4 =>
  some ((), h4)
theorem v_X4_init_2 (D : va_G) (l : Launch) (hl : l.stackTraces = false) (as : List Value) (h0 : AH) {r : Unit} {hF : AH} (x0 : Nat) (x1 : Nat) (x2 : Int32) (x3 : Int32) (x4 : Int32) (h : AH) (e : f_X4_init_2 x0 x1 x2 x3 x4 h = some (r, hF)) : V (G_X4_init_2 D l as h0 hF (oV r)) h 0 [(0, .ref x0), (1, .ref x1), (2, .int x2), (3, .int x3), (4, .int x4)] [] := by
  unfold f_X4_init_2 at e
  refine v_aload_n (pc' := 1) hc_X4_init_2 dX4_init_2_0 rfl rfl 0 rfl ?_
  refine v_oinit (pc' := 4) hc_X4_init_2 ho_X4_init_2 q938 q127 q128 ⟨Nat.le_of_ble_eq_true rfl, Nat.le_of_ble_eq_true rfl⟩ dX4_init_2_1 rfl ?_
  refine v_aload_n (pc' := 5) hc_X4_init_2 dX4_init_2_4 rfl rfl 0 rfl ?_
  refine v_aload_n (pc' := 6) hc_X4_init_2 dX4_init_2_5 rfl rfl 1 rfl ?_
  refine v_pfF (pc' := 9) hc_X4_init_2 ho_X4_init_2 rfl KX4 0 (Nat.le_of_ble_eq_true rfl) q939 rfl rfl rfl dX4_init_2_6 rfl rfl rfl e (fun h1 _ e => ?_)
  refine v_aload_n (pc' := 10) hc_X4_init_2 dX4_init_2_9 rfl rfl 0 rfl ?_
  refine v_iload_n (pc' := 11) hc_X4_init_2 dX4_init_2_10 rfl rfl 2 rfl ?_
  refine v_pfF (pc' := 14) hc_X4_init_2 ho_X4_init_2 rfl KX4 1 (Nat.le_of_ble_eq_true rfl) q940 rfl rfl rfl dX4_init_2_11 rfl rfl rfl e (fun h2 _ e => ?_)
  refine v_aload_n (pc' := 15) hc_X4_init_2 dX4_init_2_14 rfl rfl 0 rfl ?_
  refine v_iload_n (pc' := 16) hc_X4_init_2 dX4_init_2_15 rfl rfl 3 rfl ?_
  refine v_pfF (pc' := 19) hc_X4_init_2 ho_X4_init_2 rfl KX4 2 (Nat.le_of_ble_eq_true rfl) q941 rfl rfl rfl dX4_init_2_16 rfl rfl rfl e (fun h3 _ e => ?_)
  refine v_aload_n (pc' := 20) hc_X4_init_2 dX4_init_2_19 rfl rfl 0 rfl ?_
  refine v_iload (pc' := 22) hc_X4_init_2 dX4_init_2_20 rfl 4 rfl ?_
  refine v_pfF (pc' := 25) hc_X4_init_2 ho_X4_init_2 rfl KX4 3 (Nat.le_of_ble_eq_true rfl) q942 rfl rfl rfl dX4_init_2_22 rfl rfl rfl e (fun h4 _ e => ?_)
  obtain ⟨rfl, rfl⟩ := ret_of e
  exact v_ret hc_X4_init_2 rfl dX4_init_2_25 rfl rfl
theorem w_X4_init_2 (D : va_G) (l : Launch) (hl : l.stackTraces = false) (x0 : Nat) (x1 : Nat) (x2 : Int32) (x3 : Int32) (x4 : Int32) (h : AH) {r : Unit} {hF : AH} (e : f_X4_init_2 x0 x1 x2 x3 x4 h = some (r, hF)) : MetV D l yX4_init_2 (Cond.code yX4_init_2 cX4_init_2 5 (Option.none : Option FieldType)) 1 48 [.ref x0, .ref x1, .int x2, .int x3, .int x4] h hF (oV r) :=
  met_ofF (by decide +kernel) hl (Nat.le_of_ble_eq_true rfl) rfl (v_X4_init_2 D l hl [.ref x0, .ref x1, .int x2, .int x3, .int x4] h x0 x1 x2 x3 x4 h e)
/-! BlockPapers$Named.<init>(Ljava/lang/String;II)V  -/
abbrev G_X4_init (D : va_G) (l : Launch) (as : List Value) (h0 hF : AH) (o : Out) : CT := (D, l, (yX4_init.cls, yX4_init, cX4_init, 4, (Option.none : Option FieldType), 2, 72, []), as, h0, hF, o)
theorem hc_X4_init {D : va_G} {l : Launch} {as : List Value} {h0 hF : AH} {o : Out} : gC (G_X4_init D l as h0 hF o) = cX4_init := rfl
theorem ho_X4_init {D : va_G} {l : Launch} {as : List Value} {h0 hF : AH} {o : Out} : gO (G_X4_init D l as h0 hF o) = "BlockPapers$Named" := rfl
theorem hp_X4_init {D : va_G} {l : Launch} {as : List Value} {h0 hF : AH} {o : Out} (pc : Nat) : ∀ z ∈ tableOf (gHd (G_X4_init D l as h0 hF o)), covers z pc = false := hpN
def f_X4_init (x0 : Nat) (x1 : Nat) (x2 : Int32) (x3 : Int32) (h : AH) : Option (Unit × AH) :=
  bd2 (f_X4_init_2 x0 x1 x2 x3 (0 : Int32) h) fun r1 h2 =>
  some ((), h2)
theorem v_X4_init (D : va_G) (l : Launch) (hl : l.stackTraces = false) (as : List Value) (h0 : AH) {r : Unit} {hF : AH} (x0 : Nat) (x1 : Nat) (x2 : Int32) (x3 : Int32) (h : AH) (e : f_X4_init x0 x1 x2 x3 h = some (r, hF)) : V (G_X4_init D l as h0 hF (oV r)) h 0 [(0, .ref x0), (1, .ref x1), (2, .int x2), (3, .int x3)] [] := by
  unfold f_X4_init at e
  refine v_aload_n (pc' := 1) hc_X4_init dX4_init_0 rfl rfl 0 rfl ?_
  refine v_aload_n (pc' := 2) hc_X4_init dX4_init_1 rfl rfl 1 rfl ?_
  refine v_iload_n (pc' := 3) hc_X4_init dX4_init_2 rfl rfl 2 rfl ?_
  refine v_iload_n (pc' := 4) hc_X4_init dX4_init_3 rfl rfl 3 rfl ?_
  refine v_iconst (pc' := 5) (v := 0) hc_X4_init dX4_init_4 rfl rfl ?_
  obtain ⟨r1, h2, e3, e⟩ := bd2_of e
  refine k_I (pc' := 8) (n := 4) hc_X4_init ho_X4_init (w_X4_init_2 D l hl x0 x1 x2 x3 (0 : Int32) h e3) (wA_l q935) q936 q86 q937 rfl hy_9 ⟨Nat.le_of_ble_eq_true rfl, Nat.le_of_ble_eq_true rfl⟩ rfl rfl (Nat.le_of_ble_eq_true rfl) dX4_init_5 rfl (kU ?_) kN
  obtain ⟨rfl, rfl⟩ := ret_of e
  exact v_ret hc_X4_init rfl dX4_init_8 rfl rfl
theorem w_X4_init (D : va_G) (l : Launch) (hl : l.stackTraces = false) (x0 : Nat) (x1 : Nat) (x2 : Int32) (x3 : Int32) (h : AH) {r : Unit} {hF : AH} (e : f_X4_init x0 x1 x2 x3 h = some (r, hF)) : MetV D l yX4_init (Cond.code yX4_init cX4_init 4 (Option.none : Option FieldType)) 2 72 [.ref x0, .ref x1, .int x2, .int x3] h hF (oV r) :=
  met_ofF (by decide +kernel) hl (Nat.le_of_ble_eq_true rfl) rfl (v_X4_init D l hl [.ref x0, .ref x1, .int x2, .int x3] h x0 x1 x2 x3 h e)
/-! BlockPapers$Room.<init>(II)V  -/
abbrev G_X5_init_2 (D : va_G) (l : Launch) (as : List Value) (h0 hF : AH) (o : Out) : CT := (D, l, (yX5_init_2.cls, yX5_init_2, cX5_init_2, 3, (Option.none : Option FieldType), 4, 108, []), as, h0, hF, o)
theorem hc_X5_init_2 {D : va_G} {l : Launch} {as : List Value} {h0 hF : AH} {o : Out} : gC (G_X5_init_2 D l as h0 hF o) = cX5_init_2 := rfl
theorem ho_X5_init_2 {D : va_G} {l : Launch} {as : List Value} {h0 hF : AH} {o : Out} : gO (G_X5_init_2 D l as h0 hF o) = "BlockPapers$Room" := rfl
theorem hp_X5_init_2 {D : va_G} {l : Launch} {as : List Value} {h0 hF : AH} {o : Out} (pc : Nat) : ∀ z ∈ tableOf (gHd (G_X5_init_2 D l as h0 hF o)), covers z pc = false := hpN
def f_X5_init_2 (x0 : Nat) (x1 : Int32) (x2 : Int32) (h : AH) : Option (Unit × AH) :=
  bd2 (nwX h 16 3 fsJ2) fun a2 h1 =>
  bd2 (f_J2_init a2 h1) fun r3 h4 =>
  bd (stF h4 4 x0 2 (.ref a2)) fun h6 =>
  bd (stF h6 4 x0 0 (.int x1)) fun h7 =>
  bd (stF h7 4 x0 1 (.int x2)) fun h8 =>
  some ((), h8)
theorem v_X5_init_2 (D : va_G) (l : Launch) (hl : l.stackTraces = false) (as : List Value) (h0 : AH) {r : Unit} {hF : AH} (x0 : Nat) (x1 : Int32) (x2 : Int32) (h : AH) (e : f_X5_init_2 x0 x1 x2 h = some (r, hF)) : V (G_X5_init_2 D l as h0 hF (oV r)) h 0 [(0, .ref x0), (1, .int x1), (2, .int x2)] [] := by
  unfold f_X5_init_2 at e
  refine v_aload_n (pc' := 1) hc_X5_init_2 dX5_init_2_0 rfl rfl 0 rfl ?_
  refine v_oinit (pc' := 4) hc_X5_init_2 ho_X5_init_2 q870 q127 q128 ⟨Nat.le_of_ble_eq_true rfl, Nat.le_of_ble_eq_true rfl⟩ dX5_init_2_1 rfl ?_
  refine v_aload_n (pc' := 5) hc_X5_init_2 dX5_init_2_4 rfl rfl 0 rfl ?_
  refine v_newX (pc' := 8) hc_X5_init_2 ho_X5_init_2 KJ2 q871 q136 q79 rfl dfJ2 dX5_init_2_5 rfl e (fun a2 h1 _ e => ?_)
  refine v_dup (pc' := 9) hc_X5_init_2 dX5_init_2_8 rfl rfl ?_
  obtain ⟨r3, h4, e5, e⟩ := bd2_of e
  refine k_I (pc' := 12) (n := 0) hc_X5_init_2 ho_X5_init_2 (w_J2_init D l hl a2 h1 e5) (wA_l q872) q138 q79 q139 rfl hy_2 ⟨Nat.le_of_ble_eq_true rfl, Nat.le_of_ble_eq_true rfl⟩ rfl rfl (Nat.le_of_ble_eq_true rfl) dX5_init_2_9 rfl (kU ?_) kN
  refine v_pfF (pc' := 15) hc_X5_init_2 ho_X5_init_2 rfl KX5 2 (Nat.le_of_ble_eq_true rfl) q879 rfl rfl rfl dX5_init_2_12 rfl rfl rfl e (fun h6 _ e => ?_)
  refine v_aload_n (pc' := 16) hc_X5_init_2 dX5_init_2_15 rfl rfl 0 rfl ?_
  refine v_iload_n (pc' := 17) hc_X5_init_2 dX5_init_2_16 rfl rfl 1 rfl ?_
  refine v_pfF (pc' := 20) hc_X5_init_2 ho_X5_init_2 rfl KX5 0 (Nat.le_of_ble_eq_true rfl) q873 rfl rfl rfl dX5_init_2_17 rfl rfl rfl e (fun h7 _ e => ?_)
  refine v_aload_n (pc' := 21) hc_X5_init_2 dX5_init_2_20 rfl rfl 0 rfl ?_
  refine v_iload_n (pc' := 22) hc_X5_init_2 dX5_init_2_21 rfl rfl 2 rfl ?_
  refine v_pfF (pc' := 25) hc_X5_init_2 ho_X5_init_2 rfl KX5 1 (Nat.le_of_ble_eq_true rfl) q876 rfl rfl rfl dX5_init_2_22 rfl rfl rfl e (fun h8 _ e => ?_)
  obtain ⟨rfl, rfl⟩ := ret_of e
  exact v_ret hc_X5_init_2 rfl dX5_init_2_25 rfl rfl
theorem w_X5_init_2 (D : va_G) (l : Launch) (hl : l.stackTraces = false) (x0 : Nat) (x1 : Int32) (x2 : Int32) (h : AH) {r : Unit} {hF : AH} (e : f_X5_init_2 x0 x1 x2 h = some (r, hF)) : MetV D l yX5_init_2 (Cond.code yX5_init_2 cX5_init_2 3 (Option.none : Option FieldType)) 4 108 [.ref x0, .int x1, .int x2] h hF (oV r) :=
  met_ofF (by decide +kernel) hl (Nat.le_of_ble_eq_true rfl) rfl (v_X5_init_2 D l hl [.ref x0, .int x1, .int x2] h x0 x1 x2 h e)
/-! BlockPapers$Room.<init>(LBlockPapers$Room;)V  -/
abbrev G_X5_init (D : va_G) (l : Launch) (as : List Value) (h0 hF : AH) (o : Out) : CT := (D, l, (yX5_init.cls, yX5_init, cX5_init, 2, (Option.none : Option FieldType), 6, 161, []), as, h0, hF, o)
theorem hc_X5_init {D : va_G} {l : Launch} {as : List Value} {h0 hF : AH} {o : Out} : gC (G_X5_init D l as h0 hF o) = cX5_init := rfl
theorem ho_X5_init {D : va_G} {l : Launch} {as : List Value} {h0 hF : AH} {o : Out} : gO (G_X5_init D l as h0 hF o) = "BlockPapers$Room" := rfl
theorem hp_X5_init {D : va_G} {l : Launch} {as : List Value} {h0 hF : AH} {o : Out} (pc : Nat) : ∀ z ∈ tableOf (gHd (G_X5_init D l as h0 hF o)), covers z pc = false := hpN
def f_X5_init (x0 : Nat) (x1 : Nat) (h : AH) : Option (Unit × AH) :=
  bd (gtI h 4 x1 0) fun v1 =>
  bd (gtI h 4 x1 1) fun v2 =>
  bd2 (f_X5_init_2 x0 v1 v2 h) fun r3 h4 =>
  bd (gtR h4 4 x0 2) fun v6 =>
  bd (gtR h4 4 x1 2) fun v7 =>
  gd (isC h4 16 v6) <|
  bd2 (f_J2_addAll v6 v7 h4) fun r9 h10 =>
  bd (gtI h10 4 x1 3) fun v12 =>
  bd (stF h10 4 x0 3 (.int v12)) fun h13 =>
  bd (gtI h13 4 x1 4) fun v14 =>
  bd (stF h13 4 x0 4 (.int v14)) fun h15 =>
  some ((), h15)
theorem v_X5_init (D : va_G) (l : Launch) (hl : l.stackTraces = false) (as : List Value) (h0 : AH) {r : Unit} {hF : AH} (x0 : Nat) (x1 : Nat) (h : AH) (e : f_X5_init x0 x1 h = some (r, hF)) : V (G_X5_init D l as h0 hF (oV r)) h 0 [(0, .ref x0), (1, .ref x1)] [] := by
  unfold f_X5_init at e
  refine v_aload_n (pc' := 1) hc_X5_init dX5_init_0 rfl rfl 0 rfl ?_
  refine v_aload_n (pc' := 2) hc_X5_init dX5_init_1 rfl rfl 1 rfl ?_
  refine v_gfI (pc' := 5) hc_X5_init ho_X5_init KX5 0 (Nat.le_of_ble_eq_true rfl) q873 (Or.inl rfl) dX5_init_2 rfl e (fun v1 _ e => ?_)
  refine v_aload_n (pc' := 6) hc_X5_init dX5_init_5 rfl rfl 1 rfl ?_
  refine v_gfI (pc' := 9) hc_X5_init ho_X5_init KX5 1 (Nat.le_of_ble_eq_true rfl) q876 (Or.inl rfl) dX5_init_6 rfl e (fun v2 _ e => ?_)
  obtain ⟨r3, h4, e5, e⟩ := bd2_of e
  refine k_I (pc' := 12) (n := 2) hc_X5_init ho_X5_init (w_X5_init_2 D l hl x0 v1 v2 h e5) (wA_l q867) q868 q99 q869 rfl hy_24 ⟨Nat.le_of_ble_eq_true rfl, Nat.le_of_ble_eq_true rfl⟩ rfl rfl (Nat.le_of_ble_eq_true rfl) dX5_init_9 rfl (kU ?_) kN
  refine v_aload_n (pc' := 13) hc_X5_init dX5_init_12 rfl rfl 0 rfl ?_
  refine v_gfR (pc' := 16) hc_X5_init ho_X5_init KX5 2 (Nat.le_of_ble_eq_true rfl) q879 (Or.inl rfl) dX5_init_13 rfl e (fun v6 _ e => ?_)
  refine v_aload_n (pc' := 17) hc_X5_init dX5_init_16 rfl rfl 1 rfl ?_
  refine v_gfR (pc' := 20) hc_X5_init ho_X5_init KX5 2 (Nat.le_of_ble_eq_true rfl) q879 (Or.inl rfl) dX5_init_17 rfl e (fun v7 _ e => ?_)
  obtain ⟨c8, e⟩ := gd_of e
  obtain ⟨r9, h10, e11, e⟩ := bd2_of e
  refine k_F (pc' := 25) (x := ⟨"java/util/List", "addAll", "(Ljava/util/Collection;)Z"⟩) (y := ⟨"java/util/ArrayList", "addAll", "(Ljava/util/Collection;)Z"⟩) (ci := 16) (n := 1) hc_X5_init ho_X5_init rfl c8 (w_J2_addAll D l hl v6 v7 h4 e11) (wA_l q902) (by decide +kernel) q567 q569 q79 q571 hy_18 ⟨Nat.le_of_ble_eq_true rfl, Nat.le_of_ble_eq_true rfl⟩ rfl rfl (Nat.le_of_ble_eq_true rfl) dX5_init_20 rfl (kS ?_) kN
  refine v_pop (pc' := 26) hc_X5_init dX5_init_25 rfl rfl ?_
  refine v_aload_n (pc' := 27) hc_X5_init dX5_init_26 rfl rfl 0 rfl ?_
  refine v_aload_n (pc' := 28) hc_X5_init dX5_init_27 rfl rfl 1 rfl ?_
  refine v_gfI (pc' := 31) hc_X5_init ho_X5_init KX5 3 (Nat.le_of_ble_eq_true rfl) q884 (Or.inl rfl) dX5_init_28 rfl e (fun v12 _ e => ?_)
  refine v_pf (pc' := 34) hc_X5_init ho_X5_init KX5 3 (Nat.le_of_ble_eq_true rfl) q884 (Or.inl rfl) rfl dX5_init_31 rfl rfl rfl e (fun h13 _ e => ?_)
  refine v_aload_n (pc' := 35) hc_X5_init dX5_init_34 rfl rfl 0 rfl ?_
  refine v_aload_n (pc' := 36) hc_X5_init dX5_init_35 rfl rfl 1 rfl ?_
  refine v_gfI (pc' := 39) hc_X5_init ho_X5_init KX5 4 (Nat.le_of_ble_eq_true rfl) q887 (Or.inl rfl) dX5_init_36 rfl e (fun v14 _ e => ?_)
  refine v_pf (pc' := 42) hc_X5_init ho_X5_init KX5 4 (Nat.le_of_ble_eq_true rfl) q887 (Or.inl rfl) rfl dX5_init_39 rfl rfl rfl e (fun h15 _ e => ?_)
  obtain ⟨rfl, rfl⟩ := ret_of e
  exact v_ret hc_X5_init rfl dX5_init_42 rfl rfl
theorem w_X5_init (D : va_G) (l : Launch) (hl : l.stackTraces = false) (x0 : Nat) (x1 : Nat) (h : AH) {r : Unit} {hF : AH} (e : f_X5_init x0 x1 h = some (r, hF)) : MetV D l yX5_init (Cond.code yX5_init cX5_init 2 (Option.none : Option FieldType)) 6 161 [.ref x0, .ref x1] h hF (oV r) :=
  met_ofF (by decide +kernel) hl (Nat.le_of_ble_eq_true rfl) rfl (v_X5_init D l hl [.ref x0, .ref x1] h x0 x1 h e)
/-! BlockPapers$Workshop.<init>(LBlockPapers$Workshop;)V  -/
abbrev G_X2_init_2 (D : va_G) (l : Launch) (as : List Value) (h0 hF : AH) (o : Out) : CT := (D, l, (yX2_init_2.cls, yX2_init_2, cX2_init_2, 3, (Option.none : Option FieldType), 8, 200, []), as, h0, hF, o)
theorem hc_X2_init_2 {D : va_G} {l : Launch} {as : List Value} {h0 hF : AH} {o : Out} : gC (G_X2_init_2 D l as h0 hF o) = cX2_init_2 := rfl
theorem ho_X2_init_2 {D : va_G} {l : Launch} {as : List Value} {h0 hF : AH} {o : Out} : gO (G_X2_init_2 D l as h0 hF o) = "BlockPapers$Workshop" := rfl
theorem hp_X2_init_2 {D : va_G} {l : Launch} {as : List Value} {h0 hF : AH} {o : Out} (pc : Nat) : ∀ z ∈ tableOf (gHd (G_X2_init_2 D l as h0 hF o)), covers z pc = false := hpN
def fb_X2_init_2_l48 (rec : Nat → Nat → Int32 → AH → Option (Unit × AH)) (x0 : Nat) (x1 : Nat) (x2 : Int32) (h : AH) : Option (Unit × AH) :=
  bd (gtR h 1 x1 3) fun v1 =>
  gd (isC h 16 v1) <|
  bd2 (f_J2_size v1 h) fun r3 h4 =>
  if r3 ≤ x2 then (
    some ((), h4)
  ) else (
    bd (gtR h4 1 x0 3) fun v6 =>
    bd2 (nwX h4 4 5 fsX5) fun a8 h7 =>
    bd (gtR h7 1 x1 3) fun v9 =>
    gd (isC h7 16 v9) <|
    bd2 (f_J2_get v9 x2 h7) fun r11 h12 =>
    gd (isC h12 4 r11) <|
    bd2 (f_X5_init a8 r11 h12) fun r15 h16 =>
    gd (isC h16 16 v6) <|
    bd2 (f_J2_add v6 a8 h16) fun r19 h20 =>
    rec x0 x1 (x2 + 1) h20
  )
def f_X2_init_2_l48 : Nat → Nat → Nat → Int32 → AH → Option (Unit × AH)
  | 0 => fun _ _ _ _ => none
  | n + 1 => fb_X2_init_2_l48 (f_X2_init_2_l48 n) 
theorem w_X2_init_2_l48 (D : va_G) (l : Launch) (hl : l.stackTraces = false) (as : List Value) (h0 : AH) {r : Unit} {hF : AH} : ∀ (n : Nat) (x0 : Nat) (x1 : Nat) (x2 : Int32) (h : AH), f_X2_init_2_l48 n x0 x1 x2 h = some (r, hF) → V (G_X2_init_2 D l as h0 hF (oV r)) h 48 [(0, .ref x0), (1, .ref x1), (2, .int x2)] [] := by
  intro n; induction n with
  | zero => intro x0 x1 x2 h e; exact absurd (show (none : Option (Unit × AH)) = some _ from e) (fun z => nomatch z)
  | succ n IH =>
    intro x0 x1 x2 h e
    have e : fb_X2_init_2_l48 (f_X2_init_2_l48 n) x0 x1 x2 h = some (r, hF) := e
    unfold fb_X2_init_2_l48 at e
    refine v_iload_n (pc' := 49) hc_X2_init_2 dX2_init_2_48 rfl rfl 2 rfl ?_
    refine v_aload_n (pc' := 50) hc_X2_init_2 dX2_init_2_49 rfl rfl 1 rfl ?_
    refine v_gfR (pc' := 53) hc_X2_init_2 ho_X2_init_2 KX2 3 (Nat.le_of_ble_eq_true rfl) q171 (Or.inl rfl) dX2_init_2_50 rfl e (fun v1 _ e => ?_)
    obtain ⟨c2, e⟩ := gd_of e
    obtain ⟨r3, h4, e5, e⟩ := bd2_of e
    refine k_F (pc' := 58) (x := ⟨"java/util/List", "size", "()I"⟩) (y := ⟨"java/util/ArrayList", "size", "()I"⟩) (ci := 16) (n := 0) hc_X2_init_2 ho_X2_init_2 rfl c2 (w_J2_size D l hl v1 h e5) (wA_l q513) (by decide +kernel) q348 q350 q79 q352 hy_19 ⟨Nat.le_of_ble_eq_true rfl, Nat.le_of_ble_eq_true rfl⟩ rfl rfl (Nat.le_of_ble_eq_true rfl) dX2_init_2_53 rfl (kS ?_) kN
    refine v_icmp_ge (pt := 97) (pf := 61) hc_X2_init_2 dX2_init_2_58 rfl rfl e (fun _ e => ?_) (fun _ e => ?_)
    · obtain ⟨rfl, rfl⟩ := ret_of e
      exact v_ret hc_X2_init_2 rfl dX2_init_2_97 rfl rfl
    · refine v_aload_n (pc' := 62) hc_X2_init_2 dX2_init_2_61 rfl rfl 0 rfl ?_
      refine v_gfR (pc' := 65) hc_X2_init_2 ho_X2_init_2 KX2 3 (Nat.le_of_ble_eq_true rfl) q171 (Or.inl rfl) dX2_init_2_62 rfl e (fun v6 _ e => ?_)
      refine v_newX (pc' := 68) hc_X2_init_2 ho_X2_init_2 KX5 q544 q863 q99 rfl dfX5 dX2_init_2_65 rfl e (fun a8 h7 _ e => ?_)
      refine v_dup (pc' := 69) hc_X2_init_2 dX2_init_2_68 rfl rfl ?_
      refine v_aload_n (pc' := 70) hc_X2_init_2 dX2_init_2_69 rfl rfl 1 rfl ?_
      refine v_gfR (pc' := 73) hc_X2_init_2 ho_X2_init_2 KX2 3 (Nat.le_of_ble_eq_true rfl) q171 (Or.inl rfl) dX2_init_2_70 rfl e (fun v9 _ e => ?_)
      refine v_iload_n (pc' := 74) hc_X2_init_2 dX2_init_2_73 rfl rfl 2 rfl ?_
      obtain ⟨c10, e⟩ := gd_of e
      obtain ⟨r11, h12, e13, e⟩ := bd2_of e
      refine k_F (pc' := 79) (x := ⟨"java/util/List", "get", "(I)Ljava/lang/Object;"⟩) (y := ⟨"java/util/ArrayList", "get", "(I)Ljava/lang/Object;"⟩) (ci := 16) (n := 1) hc_X2_init_2 ho_X2_init_2 rfl c10 (w_J2_get D l hl v9 x2 h7 e13) (wA_l q515) (by decide +kernel) q401 q403 q79 q405 hy_23 ⟨Nat.le_of_ble_eq_true rfl, Nat.le_of_ble_eq_true rfl⟩ rfl rfl (Nat.le_of_ble_eq_true rfl) dX2_init_2_74 rfl (kS ?_) kN
      obtain ⟨c14, e⟩ := gd_of e
      refine v_cast (pc' := 82) (ci := 4) hc_X2_init_2 ho_X2_init_2 rfl q544 (Or.inl rfl) dX2_init_2_79 rfl c14 ?_
      obtain ⟨r15, h16, e17, e⟩ := bd2_of e
      refine k_I (pc' := 85) (n := 1) hc_X2_init_2 ho_X2_init_2 (w_X5_init D l hl a8 r11 h12 e17) (wA_l q864) q865 q99 q866 rfl hy_25 ⟨Nat.le_of_ble_eq_true rfl, Nat.le_of_ble_eq_true rfl⟩ rfl rfl (Nat.le_of_ble_eq_true rfl) dX2_init_2_82 rfl (kU ?_) kN
      obtain ⟨c18, e⟩ := gd_of e
      obtain ⟨r19, h20, e21, e⟩ := bd2_of e
      refine k_F (pc' := 90) (x := ⟨"java/util/List", "add", "(Ljava/lang/Object;)Z"⟩) (y := ⟨"java/util/ArrayList", "add", "(Ljava/lang/Object;)Z"⟩) (ci := 16) (n := 1) hc_X2_init_2 ho_X2_init_2 rfl c18 (w_J2_add D l hl v6 a8 h16 e21) (wA_l q904) (by decide +kernel) q907 q909 q79 q911 hy_28 ⟨Nat.le_of_ble_eq_true rfl, Nat.le_of_ble_eq_true rfl⟩ rfl rfl (Nat.le_of_ble_eq_true rfl) dX2_init_2_85 rfl (kS ?_) kN
      refine v_pop (pc' := 91) hc_X2_init_2 dX2_init_2_90 rfl rfl ?_
      refine v_iinc (pc' := 94) (lv' := [(2, .int (x2 + 1)), (0, .ref x0), (1, .ref x1)]) (v := x2 + 1) hc_X2_init_2 dX2_init_2_91 rfl 2 rfl rfl (Nat.le_of_ble_eq_true rfl) rfl ?_
      refine v_goto (pt := 48) hc_X2_init_2 dX2_init_2_94 rfl ?_
      refine v_pick [1, 2, 0] rfl ?_
      exact IH x0 x1 (x2 + 1) h20 e
def f_X2_init_2 (x0 : Nat) (x1 : Nat) (h : AH) : Option (Unit × AH) :=
  bd2 (f_X2_init x0 h) fun r1 h2 =>
  bd (gtR h2 1 x0 0) fun v4 =>
  bd (gtR h2 1 x1 0) fun v5 =>
  gd (isC h2 16 v4) <|
  bd2 (f_J2_addAll v4 v5 h2) fun r7 h8 =>
  bd (gtR h8 1 x0 1) fun v10 =>
  bd (gtR h8 1 x1 1) fun v11 =>
  gd (isC h8 16 v10) <|
  bd2 (f_J2_addAll v10 v11 h8) fun r13 h14 =>
  bd (gtR h14 1 x0 2) fun v16 =>
  bd (gtR h14 1 x1 2) fun v17 =>
  gd (isC h14 16 v16) <|
  bd2 (f_J2_addAll v16 v17 h14) fun r19 h20 =>
  f_X2_init_2_l48 NN x0 x1 (0 : Int32) h20
theorem v_X2_init_2 (D : va_G) (l : Launch) (hl : l.stackTraces = false) (as : List Value) (h0 : AH) {r : Unit} {hF : AH} (x0 : Nat) (x1 : Nat) (h : AH) (e : f_X2_init_2 x0 x1 h = some (r, hF)) : V (G_X2_init_2 D l as h0 hF (oV r)) h 0 [(0, .ref x0), (1, .ref x1)] [] := by
  unfold f_X2_init_2 at e
  refine v_aload_n (pc' := 1) hc_X2_init_2 dX2_init_2_0 rfl rfl 0 rfl ?_
  obtain ⟨r1, h2, e3, e⟩ := bd2_of e
  refine k_I (pc' := 4) (n := 0) hc_X2_init_2 ho_X2_init_2 (w_X2_init D l hl x0 h e3) (wA_l q562) q132 q76 q133 rfl hy_3 ⟨Nat.le_of_ble_eq_true rfl, Nat.le_of_ble_eq_true rfl⟩ rfl rfl (Nat.le_of_ble_eq_true rfl) dX2_init_2_1 rfl (kU ?_) kN
  refine v_aload_n (pc' := 5) hc_X2_init_2 dX2_init_2_4 rfl rfl 0 rfl ?_
  refine v_gfR (pc' := 8) hc_X2_init_2 ho_X2_init_2 KX2 0 (Nat.le_of_ble_eq_true rfl) q164 (Or.inl rfl) dX2_init_2_5 rfl e (fun v4 _ e => ?_)
  refine v_aload_n (pc' := 9) hc_X2_init_2 dX2_init_2_8 rfl rfl 1 rfl ?_
  refine v_gfR (pc' := 12) hc_X2_init_2 ho_X2_init_2 KX2 0 (Nat.le_of_ble_eq_true rfl) q164 (Or.inl rfl) dX2_init_2_9 rfl e (fun v5 _ e => ?_)
  obtain ⟨c6, e⟩ := gd_of e
  obtain ⟨r7, h8, e9, e⟩ := bd2_of e
  refine k_F (pc' := 17) (x := ⟨"java/util/List", "addAll", "(Ljava/util/Collection;)Z"⟩) (y := ⟨"java/util/ArrayList", "addAll", "(Ljava/util/Collection;)Z"⟩) (ci := 16) (n := 1) hc_X2_init_2 ho_X2_init_2 rfl c6 (w_J2_addAll D l hl v4 v5 h2 e9) (wA_l q564) (by decide +kernel) q567 q569 q79 q571 hy_18 ⟨Nat.le_of_ble_eq_true rfl, Nat.le_of_ble_eq_true rfl⟩ rfl rfl (Nat.le_of_ble_eq_true rfl) dX2_init_2_12 rfl (kS ?_) kN
  refine v_pop (pc' := 18) hc_X2_init_2 dX2_init_2_17 rfl rfl ?_
  refine v_aload_n (pc' := 19) hc_X2_init_2 dX2_init_2_18 rfl rfl 0 rfl ?_
  refine v_gfR (pc' := 22) hc_X2_init_2 ho_X2_init_2 KX2 1 (Nat.le_of_ble_eq_true rfl) q166 (Or.inl rfl) dX2_init_2_19 rfl e (fun v10 _ e => ?_)
  refine v_aload_n (pc' := 23) hc_X2_init_2 dX2_init_2_22 rfl rfl 1 rfl ?_
  refine v_gfR (pc' := 26) hc_X2_init_2 ho_X2_init_2 KX2 1 (Nat.le_of_ble_eq_true rfl) q166 (Or.inl rfl) dX2_init_2_23 rfl e (fun v11 _ e => ?_)
  obtain ⟨c12, e⟩ := gd_of e
  obtain ⟨r13, h14, e15, e⟩ := bd2_of e
  refine k_F (pc' := 31) (x := ⟨"java/util/List", "addAll", "(Ljava/util/Collection;)Z"⟩) (y := ⟨"java/util/ArrayList", "addAll", "(Ljava/util/Collection;)Z"⟩) (ci := 16) (n := 1) hc_X2_init_2 ho_X2_init_2 rfl c12 (w_J2_addAll D l hl v10 v11 h8 e15) (wA_l q564) (by decide +kernel) q567 q569 q79 q571 hy_18 ⟨Nat.le_of_ble_eq_true rfl, Nat.le_of_ble_eq_true rfl⟩ rfl rfl (Nat.le_of_ble_eq_true rfl) dX2_init_2_26 rfl (kS ?_) kN
  refine v_pop (pc' := 32) hc_X2_init_2 dX2_init_2_31 rfl rfl ?_
  refine v_aload_n (pc' := 33) hc_X2_init_2 dX2_init_2_32 rfl rfl 0 rfl ?_
  refine v_gfR (pc' := 36) hc_X2_init_2 ho_X2_init_2 KX2 2 (Nat.le_of_ble_eq_true rfl) q169 (Or.inl rfl) dX2_init_2_33 rfl e (fun v16 _ e => ?_)
  refine v_aload_n (pc' := 37) hc_X2_init_2 dX2_init_2_36 rfl rfl 1 rfl ?_
  refine v_gfR (pc' := 40) hc_X2_init_2 ho_X2_init_2 KX2 2 (Nat.le_of_ble_eq_true rfl) q169 (Or.inl rfl) dX2_init_2_37 rfl e (fun v17 _ e => ?_)
  obtain ⟨c18, e⟩ := gd_of e
  obtain ⟨r19, h20, e21, e⟩ := bd2_of e
  refine k_F (pc' := 45) (x := ⟨"java/util/List", "addAll", "(Ljava/util/Collection;)Z"⟩) (y := ⟨"java/util/ArrayList", "addAll", "(Ljava/util/Collection;)Z"⟩) (ci := 16) (n := 1) hc_X2_init_2 ho_X2_init_2 rfl c18 (w_J2_addAll D l hl v16 v17 h14 e21) (wA_l q564) (by decide +kernel) q567 q569 q79 q571 hy_18 ⟨Nat.le_of_ble_eq_true rfl, Nat.le_of_ble_eq_true rfl⟩ rfl rfl (Nat.le_of_ble_eq_true rfl) dX2_init_2_40 rfl (kS ?_) kN
  refine v_pop (pc' := 46) hc_X2_init_2 dX2_init_2_45 rfl rfl ?_
  refine v_iconst (pc' := 47) (v := 0) hc_X2_init_2 dX2_init_2_46 rfl rfl ?_
  refine v_istore_n (pc' := 48) (lv' := [(2, .int (0 : Int32)), (0, .ref x0), (1, .ref x1)]) hc_X2_init_2 dX2_init_2_47 rfl rfl (Nat.le_of_ble_eq_true rfl) rfl ?_
  refine v_pick [1, 2, 0] rfl ?_
  exact w_X2_init_2_l48 D l hl as h0 NN x0 x1 (0 : Int32) h20 e
theorem w_X2_init_2 (D : va_G) (l : Launch) (hl : l.stackTraces = false) (x0 : Nat) (x1 : Nat) (h : AH) {r : Unit} {hF : AH} (e : f_X2_init_2 x0 x1 h = some (r, hF)) : MetV D l yX2_init_2 (Cond.code yX2_init_2 cX2_init_2 3 (Option.none : Option FieldType)) 8 200 [.ref x0, .ref x1] h hF (oV r) :=
  met_ofF (by decide +kernel) hl (Nat.le_of_ble_eq_true rfl) rfl (v_X2_init_2 D l hl [.ref x0, .ref x1] h x0 x1 h e)
/-! BlockPapers.draft()LBlockPapers$Workshop;  -/
abbrev G_X1_draft (D : va_G) (l : Launch) (as : List Value) (h0 hF : AH) (o : Out) : CT := (D, l, (yX1_draft.cls, yX1_draft, cX1_draft, 1, (Option.some (.object "BlockPapers$Workshop")), 9, 222, []), as, h0, hF, o)
theorem hc_X1_draft {D : va_G} {l : Launch} {as : List Value} {h0 hF : AH} {o : Out} : gC (G_X1_draft D l as h0 hF o) = cX1_draft := rfl
theorem ho_X1_draft {D : va_G} {l : Launch} {as : List Value} {h0 hF : AH} {o : Out} : gO (G_X1_draft D l as h0 hF o) = "BlockPapers" := rfl
theorem hp_X1_draft {D : va_G} {l : Launch} {as : List Value} {h0 hF : AH} {o : Out} (pc : Nat) : ∀ z ∈ tableOf (gHd (G_X1_draft D l as h0 hF o)), covers z pc = false := hpN
def f_X1_draft (x0 : Nat) (h : AH) : Option (Nat × AH) :=
  bd2 (nwX h 1 4 fsX2) fun a2 h1 =>
  bd (gtR h1 0 x0 0) fun v3 =>
  bd2 (f_X2_init_2 a2 v3 h1) fun r4 h5 =>
  some (a2, h5)
theorem v_X1_draft (D : va_G) (l : Launch) (hl : l.stackTraces = false) (as : List Value) (h0 : AH) {r : Nat} {hF : AH} (x0 : Nat) (h : AH) (e : f_X1_draft x0 h = some (r, hF)) : V (G_X1_draft D l as h0 hF (oR r)) h 0 [(0, .ref x0)] [] := by
  unfold f_X1_draft at e
  refine v_newX (pc' := 3) hc_X1_draft ho_X1_draft KX2 q129 q130 q76 rfl dfX2 dX1_draft_0 rfl e (fun a2 h1 _ e => ?_)
  refine v_dup (pc' := 4) hc_X1_draft dX1_draft_3 rfl rfl ?_
  refine v_aload_n (pc' := 5) hc_X1_draft dX1_draft_4 rfl rfl 0 rfl ?_
  refine v_gfR (pc' := 8) hc_X1_draft ho_X1_draft KX1 0 (Nat.le_of_ble_eq_true rfl) q235 (Or.inl rfl) dX1_draft_5 rfl e (fun v3 _ e => ?_)
  obtain ⟨r4, h5, e6, e⟩ := bd2_of e
  refine k_I (pc' := 11) (n := 1) hc_X1_draft ho_X1_draft (w_X2_init_2 D l hl a2 v3 h1 e6) (wA_l q559) q560 q76 q561 rfl hy_29 ⟨Nat.le_of_ble_eq_true rfl, Nat.le_of_ble_eq_true rfl⟩ rfl rfl (Nat.le_of_ble_eq_true rfl) dX1_draft_8 rfl (kU ?_) kN
  obtain ⟨rfl, rfl⟩ := ret_of e
  exact v_aret hc_X1_draft rfl (Or.inl ⟨_, rfl⟩) (Or.inr ⟨_, rfl⟩) dX1_draft_11 rfl rfl
theorem w_X1_draft (D : va_G) (l : Launch) (hl : l.stackTraces = false) (x0 : Nat) (h : AH) {r : Nat} {hF : AH} (e : f_X1_draft x0 h = some (r, hF)) : MetV D l yX1_draft (Cond.code yX1_draft cX1_draft 1 (Option.some (.object "BlockPapers$Workshop"))) 9 222 [.ref x0] h hF (oR r) :=
  met_ofF (by decide +kernel) hl (Nat.le_of_ble_eq_true rfl) rfl (v_X1_draft D l hl [.ref x0] h x0 h e)
/-! BlockPapers.inRange(III)Z  -/
abbrev G_X1_inRange (D : va_G) (l : Launch) (as : List Value) (h0 hF : AH) (o : Out) : CT := (D, l, (yX1_inRange.cls, yX1_inRange, cX1_inRange, 3, (Option.some .boolean), 1, 48, []), as, h0, hF, o)
theorem hc_X1_inRange {D : va_G} {l : Launch} {as : List Value} {h0 hF : AH} {o : Out} : gC (G_X1_inRange D l as h0 hF o) = cX1_inRange := rfl
theorem ho_X1_inRange {D : va_G} {l : Launch} {as : List Value} {h0 hF : AH} {o : Out} : gO (G_X1_inRange D l as h0 hF o) = "BlockPapers" := rfl
theorem hp_X1_inRange {D : va_G} {l : Launch} {as : List Value} {h0 hF : AH} {o : Out} (pc : Nat) : ∀ z ∈ tableOf (gHd (G_X1_inRange D l as h0 hF o)), covers z pc = false := hpN
def f_X1_inRange (x0 : Int32) (x1 : Int32) (x2 : Int32) (h : AH) : Option (Int32 × AH) :=
  if x0 < x1 then (
    some ((0 : Int32), h)
  ) else (
    if x2 < x0 then (
      some ((0 : Int32), h)
    ) else (
      some ((1 : Int32), h)
    )
  )
theorem v_X1_inRange (D : va_G) (l : Launch) (hl : l.stackTraces = false) (as : List Value) (h0 : AH) {r : Int32} {hF : AH} (x0 : Int32) (x1 : Int32) (x2 : Int32) (h : AH) (e : f_X1_inRange x0 x1 x2 h = some (r, hF)) : V (G_X1_inRange D l as h0 hF (oI r)) h 0 [(0, .int x0), (1, .int x1), (2, .int x2)] [] := by
  unfold f_X1_inRange at e
  refine v_iload_n (pc' := 1) hc_X1_inRange dX1_inRange_0 rfl rfl 0 rfl ?_
  refine v_iload_n (pc' := 2) hc_X1_inRange dX1_inRange_1 rfl rfl 1 rfl ?_
  refine v_icmp_lt (pt := 14) (pf := 5) hc_X1_inRange dX1_inRange_2 rfl rfl e (fun _ e => ?_) (fun _ e => ?_)
  · refine v_iconst (pc' := 15) (v := 0) hc_X1_inRange dX1_inRange_14 rfl rfl ?_
    obtain ⟨rfl, rfl⟩ := ret_of e
    exact v_zret hc_X1_inRange rfl (ft := .boolean) rfl dX1_inRange_15 rfl rfl
  · refine v_iload_n (pc' := 6) hc_X1_inRange dX1_inRange_5 rfl rfl 0 rfl ?_
    refine v_iload_n (pc' := 7) hc_X1_inRange dX1_inRange_6 rfl rfl 2 rfl ?_
    refine v_icmp_gt (pt := 14) (pf := 10) hc_X1_inRange dX1_inRange_7 rfl rfl e (fun _ e => ?_) (fun _ e => ?_)
    · refine v_iconst (pc' := 15) (v := 0) hc_X1_inRange dX1_inRange_14 rfl rfl ?_
      obtain ⟨rfl, rfl⟩ := ret_of e
      exact v_zret hc_X1_inRange rfl (ft := .boolean) rfl dX1_inRange_15 rfl rfl
    · refine v_iconst (pc' := 11) (v := 1) hc_X1_inRange dX1_inRange_10 rfl rfl ?_
      refine v_goto (pt := 15) hc_X1_inRange dX1_inRange_11 rfl ?_
      obtain ⟨rfl, rfl⟩ := ret_of e
      exact v_zret hc_X1_inRange rfl (ft := .boolean) rfl dX1_inRange_15 rfl rfl
theorem w_X1_inRange (D : va_G) (l : Launch) (hl : l.stackTraces = false) (x0 : Int32) (x1 : Int32) (x2 : Int32) (h : AH) {r : Int32} {hF : AH} (e : f_X1_inRange x0 x1 x2 h = some (r, hF)) : MetV D l yX1_inRange (Cond.code yX1_inRange cX1_inRange 3 (Option.some .boolean)) 1 48 [.int x0, .int x1, .int x2] h hF (oI r) :=
  met_ofF (by decide +kernel) hl (Nat.le_of_ble_eq_true rfl) rfl (v_X1_inRange D l hl [.int x0, .int x1, .int x2] h x0 x1 x2 h e)
/-! BlockPapers.require(Z)V  -/
abbrev G_X1_require (D : va_G) (l : Launch) (as : List Value) (h0 hF : AH) (o : Out) : CT := (D, l, (yX1_require.cls, yX1_require, cX1_require, 1, (Option.none : Option FieldType), 6, 89, []), as, h0, hF, o)
theorem hc_X1_require {D : va_G} {l : Launch} {as : List Value} {h0 hF : AH} {o : Out} : gC (G_X1_require D l as h0 hF o) = cX1_require := rfl
theorem ho_X1_require {D : va_G} {l : Launch} {as : List Value} {h0 hF : AH} {o : Out} : gO (G_X1_require D l as h0 hF o) = "BlockPapers" := rfl
theorem hp_X1_require {D : va_G} {l : Launch} {as : List Value} {h0 hF : AH} {o : Out} (pc : Nat) : ∀ z ∈ tableOf (gHd (G_X1_require D l as h0 hF o)), covers z pc = false := hpN
def f_X1_require (x0 : Int32) (h : AH) : Option ((Unit ⊕ Nat) × AH) :=
  if x0 = 0 then (
    bd2 (nwX h 21 6 []) fun a2 h1 =>
    outX h1 a2
  ) else (
    some (.inl (), h)
  )
theorem v_X1_require (D : va_G) (l : Launch) (hl : l.stackTraces = false) (as : List Value) (h0 : AH) {r : (Unit ⊕ Nat)} {hF : AH} (x0 : Int32) (h : AH) (e : f_X1_require x0 h = some (r, hF)) : V (G_X1_require D l as h0 hF ((oX oV) r)) h 0 [(0, .int x0)] [] := by
  unfold f_X1_require at e
  refine v_iload_n (pc' := 1) hc_X1_require dX1_require_0 rfl rfl 0 rfl ?_
  refine v_if_ne (pt := 12) (pf := 4) hc_X1_require dX1_require_1 rfl rfl e (fun _ e => ?_) (fun _ e => ?_)
  · refine v_makeX (pc' := 11) (ci := 21) (names := ["java/lang/RuntimeException", "java/lang/Exception"]) hc_X1_require ho_X1_require hl (by decide +kernel) (by decide +kernel) q272 q91 (by decide +kernel) rfl (by decide) ⟨Nat.le_of_ble_eq_true rfl, Nat.le_of_ble_eq_true rfl⟩ dX1_require_4 dX1_require_7 dX1_require_8 rfl e (fun a2 h1 _ e => ?_)
    refine v_athrow hc_X1_require dX1_require_11 ?_
    exact v_outA (hp_X1_require _) rfl rfl e
  · obtain ⟨rfl, rfl⟩ := ret_of e
    exact v_ret hc_X1_require rfl dX1_require_12 rfl rfl
theorem w_X1_require (D : va_G) (l : Launch) (hl : l.stackTraces = false) (x0 : Int32) (h : AH) {r : (Unit ⊕ Nat)} {hF : AH} (e : f_X1_require x0 h = some (r, hF)) : MetV D l yX1_require (Cond.code yX1_require cX1_require 1 (Option.none : Option FieldType)) 6 89 [.int x0] h hF ((oX oV) r) :=
  met_ofF (by decide +kernel) hl (Nat.le_of_ble_eq_true rfl) rfl (v_X1_require D l hl [.int x0] h x0 h e)
/-! BlockPapers$Failure.<init>(II)V  -/
abbrev G_X7_init (D : va_G) (l : Launch) (as : List Value) (h0 hF : AH) (o : Out) : CT := (D, l, (yX7_init.cls, yX7_init, cX7_init, 3, (Option.none : Option FieldType), 3, 96, []), as, h0, hF, o)
theorem hc_X7_init {D : va_G} {l : Launch} {as : List Value} {h0 hF : AH} {o : Out} : gC (G_X7_init D l as h0 hF o) = cX7_init := rfl
theorem ho_X7_init {D : va_G} {l : Launch} {as : List Value} {h0 hF : AH} {o : Out} : gO (G_X7_init D l as h0 hF o) = "BlockPapers$Failure" := rfl
theorem hp_X7_init {D : va_G} {l : Launch} {as : List Value} {h0 hF : AH} {o : Out} (pc : Nat) : ∀ z ∈ tableOf (gHd (G_X7_init D l as h0 hF o)), covers z pc = false := hpN
def f_X7_init (x0 : Nat) (x1 : Int32) (x2 : Int32) (h : AH) : Option (Unit × AH) :=
  bd2 (f_J10_init_3_6_n12 x0 (0 : Int32) (0 : Int32) h) fun r1 h2 =>
  bd (stF h2 6 x0 6 (.int x1)) fun h4 =>
  bd (stF h4 6 x0 7 (.int x2)) fun h5 =>
  some ((), h5)
theorem v_X7_init (D : va_G) (l : Launch) (hl : l.stackTraces = false) (as : List Value) (h0 : AH) {r : Unit} {hF : AH} (x0 : Nat) (x1 : Int32) (x2 : Int32) (h : AH) (e : f_X7_init x0 x1 x2 h = some (r, hF)) : V (G_X7_init D l as h0 hF (oV r)) h 0 [(0, .ref x0), (1, .int x1), (2, .int x2)] [] := by
  unfold f_X7_init at e
  refine v_aload_n (pc' := 1) hc_X7_init dX7_init_0 rfl rfl 0 rfl ?_
  refine v_null (pc' := 2) hc_X7_init dX7_init_1 rfl ?_
  refine v_null (pc' := 3) hc_X7_init dX7_init_2 rfl ?_
  refine v_iconst (pc' := 4) (v := 0) hc_X7_init dX7_init_3 rfl rfl ?_
  refine v_iconst (pc' := 5) (v := 0) hc_X7_init dX7_init_4 rfl rfl ?_
  obtain ⟨r1, h2, e3, e⟩ := bd2_of e
  refine k_I (pc' := 8) (n := 4) hc_X7_init ho_X7_init (w_J10_init_3_6_n12 D l hl x0 (0 : Int32) (0 : Int32) h e3) (wA_l q1104) q1105 q89 q1106 rfl hy_42 ⟨Nat.le_of_ble_eq_true rfl, Nat.le_of_ble_eq_true rfl⟩ rfl rfl (Nat.le_of_ble_eq_true rfl) dX7_init_5 rfl (kU ?_) kN
  refine v_aload_n (pc' := 9) hc_X7_init dX7_init_8 rfl rfl 0 rfl ?_
  refine v_iload_n (pc' := 10) hc_X7_init dX7_init_9 rfl rfl 1 rfl ?_
  refine v_pfF (pc' := 13) hc_X7_init ho_X7_init rfl KX7 6 (Nat.le_of_ble_eq_true rfl) q1110 rfl rfl rfl dX7_init_10 rfl rfl rfl e (fun h4 _ e => ?_)
  refine v_aload_n (pc' := 14) hc_X7_init dX7_init_13 rfl rfl 0 rfl ?_
  refine v_iload_n (pc' := 15) hc_X7_init dX7_init_14 rfl rfl 2 rfl ?_
  refine v_pfF (pc' := 18) hc_X7_init ho_X7_init rfl KX7 7 (Nat.le_of_ble_eq_true rfl) q1112 rfl rfl rfl dX7_init_15 rfl rfl rfl e (fun h5 _ e => ?_)
  obtain ⟨rfl, rfl⟩ := ret_of e
  exact v_ret hc_X7_init rfl dX7_init_18 rfl rfl
theorem w_X7_init (D : va_G) (l : Launch) (hl : l.stackTraces = false) (x0 : Nat) (x1 : Int32) (x2 : Int32) (h : AH) {r : Unit} {hF : AH} (e : f_X7_init x0 x1 x2 h = some (r, hF)) : MetV D l yX7_init (Cond.code yX7_init cX7_init 3 (Option.none : Option FieldType)) 3 96 [.ref x0, .int x1, .int x2] h hF (oV r) :=
  met_ofF (by decide +kernel) hl (Nat.le_of_ble_eq_true rfl) rfl (v_X7_init D l hl [.ref x0, .int x1, .int x2] h x0 x1 x2 h e)
/-! BlockPapers.allow(ZII)V  -/
abbrev G_X1_allow (D : va_G) (l : Launch) (as : List Value) (h0 hF : AH) (o : Out) : CT := (D, l, (yX1_allow.cls, yX1_allow, cX1_allow, 3, (Option.none : Option FieldType), 4, 118, []), as, h0, hF, o)
theorem hc_X1_allow {D : va_G} {l : Launch} {as : List Value} {h0 hF : AH} {o : Out} : gC (G_X1_allow D l as h0 hF o) = cX1_allow := rfl
theorem ho_X1_allow {D : va_G} {l : Launch} {as : List Value} {h0 hF : AH} {o : Out} : gO (G_X1_allow D l as h0 hF o) = "BlockPapers" := rfl
theorem hp_X1_allow {D : va_G} {l : Launch} {as : List Value} {h0 hF : AH} {o : Out} (pc : Nat) : ∀ z ∈ tableOf (gHd (G_X1_allow D l as h0 hF o)), covers z pc = false := hpN
def f_X1_allow (x0 : Int32) (x1 : Int32) (x2 : Int32) (h : AH) : Option ((Unit ⊕ Nat) × AH) :=
  if x0 = 0 then (
    bd2 (nwX h 6 8 fsX7) fun a2 h1 =>
    bd2 (f_X7_init a2 x1 x2 h1) fun r3 h4 =>
    outX h4 a2
  ) else (
    some (.inl (), h)
  )
theorem v_X1_allow (D : va_G) (l : Launch) (hl : l.stackTraces = false) (as : List Value) (h0 : AH) {r : (Unit ⊕ Nat)} {hF : AH} (x0 : Int32) (x1 : Int32) (x2 : Int32) (h : AH) (e : f_X1_allow x0 x1 x2 h = some (r, hF)) : V (G_X1_allow D l as h0 hF ((oX oV) r)) h 0 [(0, .int x0), (1, .int x1), (2, .int x2)] [] := by
  unfold f_X1_allow at e
  refine v_iload_n (pc' := 1) hc_X1_allow dX1_allow_0 rfl rfl 0 rfl ?_
  refine v_if_ne (pt := 14) (pf := 4) hc_X1_allow dX1_allow_1 rfl rfl e (fun _ e => ?_) (fun _ e => ?_)
  · refine v_newX (pc' := 7) hc_X1_allow ho_X1_allow KX7 q956 q1093 q106 rfl dfX7 dX1_allow_4 rfl e (fun a2 h1 _ e => ?_)
    refine v_dup (pc' := 8) hc_X1_allow dX1_allow_7 rfl rfl ?_
    refine v_iload_n (pc' := 9) hc_X1_allow dX1_allow_8 rfl rfl 1 rfl ?_
    refine v_iload_n (pc' := 10) hc_X1_allow dX1_allow_9 rfl rfl 2 rfl ?_
    obtain ⟨r3, h4, e5, e⟩ := bd2_of e
    refine k_I (pc' := 13) (n := 2) hc_X1_allow ho_X1_allow (w_X7_init D l hl a2 x1 x2 h1 e5) (wA_l q1101) q1102 q106 q1103 rfl hy_43 ⟨Nat.le_of_ble_eq_true rfl, Nat.le_of_ble_eq_true rfl⟩ rfl rfl (Nat.le_of_ble_eq_true rfl) dX1_allow_10 rfl (kU ?_) kN
    refine v_athrow hc_X1_allow dX1_allow_13 ?_
    exact v_outA (hp_X1_allow _) rfl rfl e
  · obtain ⟨rfl, rfl⟩ := ret_of e
    exact v_ret hc_X1_allow rfl dX1_allow_14 rfl rfl
theorem w_X1_allow (D : va_G) (l : Launch) (hl : l.stackTraces = false) (x0 : Int32) (x1 : Int32) (x2 : Int32) (h : AH) {r : (Unit ⊕ Nat)} {hF : AH} (e : f_X1_allow x0 x1 x2 h = some (r, hF)) : MetV D l yX1_allow (Cond.code yX1_allow cX1_allow 3 (Option.none : Option FieldType)) 4 118 [.int x0, .int x1, .int x2] h hF ((oX oV) r) :=
  met_ofF (by decide +kernel) hl (Nat.le_of_ble_eq_true rfl) rfl (v_X1_allow D l hl [.int x0, .int x1, .int x2] h x0 x1 x2 h e)
/-! BlockPapers$Block.<init>(IZI)V  -/
abbrev G_X8_init_2 (D : va_G) (l : Launch) (as : List Value) (h0 hF : AH) (o : Out) : CT := (D, l, (yX8_init_2.cls, yX8_init_2, cX8_init_2, 4, (Option.none : Option FieldType), 1, 48, []), as, h0, hF, o)
theorem hc_X8_init_2 {D : va_G} {l : Launch} {as : List Value} {h0 hF : AH} {o : Out} : gC (G_X8_init_2 D l as h0 hF o) = cX8_init_2 := rfl
theorem ho_X8_init_2 {D : va_G} {l : Launch} {as : List Value} {h0 hF : AH} {o : Out} : gO (G_X8_init_2 D l as h0 hF o) = "BlockPapers$Block" := rfl
theorem hp_X8_init_2 {D : va_G} {l : Launch} {as : List Value} {h0 hF : AH} {o : Out} (pc : Nat) : ∀ z ∈ tableOf (gHd (G_X8_init_2 D l as h0 hF o)), covers z pc = false := hpN
def f_X8_init_2 (x0 : Nat) (x1 : Int32) (x2 : Int32) (x3 : Int32) (h : AH) : Option (Unit × AH) :=
  bd (stF h 7 x0 0 (.int x1)) fun h1 =>
  gd (nrw .boolean x2) <|
  bd (stF h1 7 x0 1 (.int x2)) fun h3 =>
  bd (stF h3 7 x0 2 (.int x3)) fun h4 =>
  some ((), h4)
theorem v_X8_init_2 (D : va_G) (l : Launch) (hl : l.stackTraces = false) (as : List Value) (h0 : AH) {r : Unit} {hF : AH} (x0 : Nat) (x1 : Int32) (x2 : Int32) (x3 : Int32) (h : AH) (e : f_X8_init_2 x0 x1 x2 x3 h = some (r, hF)) : V (G_X8_init_2 D l as h0 hF (oV r)) h 0 [(0, .ref x0), (1, .int x1), (2, .int x2), (3, .int x3)] [] := by
  unfold f_X8_init_2 at e
  refine v_aload_n (pc' := 1) hc_X8_init_2 dX8_init_2_0 rfl rfl 0 rfl ?_
  refine v_oinit (pc' := 4) hc_X8_init_2 ho_X8_init_2 q1128 q127 q128 ⟨Nat.le_of_ble_eq_true rfl, Nat.le_of_ble_eq_true rfl⟩ dX8_init_2_1 rfl ?_
  refine v_aload_n (pc' := 5) hc_X8_init_2 dX8_init_2_4 rfl rfl 0 rfl ?_
  refine v_iload_n (pc' := 6) hc_X8_init_2 dX8_init_2_5 rfl rfl 1 rfl ?_
  refine v_pfF (pc' := 9) hc_X8_init_2 ho_X8_init_2 rfl KX8 0 (Nat.le_of_ble_eq_true rfl) q1129 rfl rfl rfl dX8_init_2_6 rfl rfl rfl e (fun h1 _ e => ?_)
  refine v_aload_n (pc' := 10) hc_X8_init_2 dX8_init_2_9 rfl rfl 0 rfl ?_
  refine v_iload_n (pc' := 11) hc_X8_init_2 dX8_init_2_10 rfl rfl 2 rfl ?_
  obtain ⟨c2, e⟩ := gd_of e
  refine v_pfF (pc' := 14) hc_X8_init_2 ho_X8_init_2 rfl KX8 1 (Nat.le_of_ble_eq_true rfl) q1131 rfl rfl rfl dX8_init_2_11 rfl (nrw_of c2) (fit_of c2) e (fun h3 _ e => ?_)
  refine v_aload_n (pc' := 15) hc_X8_init_2 dX8_init_2_14 rfl rfl 0 rfl ?_
  refine v_iload_n (pc' := 16) hc_X8_init_2 dX8_init_2_15 rfl rfl 3 rfl ?_
  refine v_pfF (pc' := 19) hc_X8_init_2 ho_X8_init_2 rfl KX8 2 (Nat.le_of_ble_eq_true rfl) q1133 rfl rfl rfl dX8_init_2_16 rfl rfl rfl e (fun h4 _ e => ?_)
  obtain ⟨rfl, rfl⟩ := ret_of e
  exact v_ret hc_X8_init_2 rfl dX8_init_2_19 rfl rfl
theorem w_X8_init_2 (D : va_G) (l : Launch) (hl : l.stackTraces = false) (x0 : Nat) (x1 : Int32) (x2 : Int32) (x3 : Int32) (h : AH) {r : Unit} {hF : AH} (e : f_X8_init_2 x0 x1 x2 x3 h = some (r, hF)) : MetV D l yX8_init_2 (Cond.code yX8_init_2 cX8_init_2 4 (Option.none : Option FieldType)) 1 48 [.ref x0, .int x1, .int x2, .int x3] h hF (oV r) :=
  met_ofF (by decide +kernel) hl (Nat.le_of_ble_eq_true rfl) rfl (v_X8_init_2 D l hl [.ref x0, .int x1, .int x2, .int x3] h x0 x1 x2 x3 h e)
/-! BlockPapers$Block.<init>(IZ)V  -/
abbrev G_X8_init (D : va_G) (l : Launch) (as : List Value) (h0 hF : AH) (o : Out) : CT := (D, l, (yX8_init.cls, yX8_init, cX8_init, 3, (Option.none : Option FieldType), 2, 71, []), as, h0, hF, o)
theorem hc_X8_init {D : va_G} {l : Launch} {as : List Value} {h0 hF : AH} {o : Out} : gC (G_X8_init D l as h0 hF o) = cX8_init := rfl
theorem ho_X8_init {D : va_G} {l : Launch} {as : List Value} {h0 hF : AH} {o : Out} : gO (G_X8_init D l as h0 hF o) = "BlockPapers$Block" := rfl
theorem hp_X8_init {D : va_G} {l : Launch} {as : List Value} {h0 hF : AH} {o : Out} (pc : Nat) : ∀ z ∈ tableOf (gHd (G_X8_init D l as h0 hF o)), covers z pc = false := hpN
def f_X8_init (x0 : Nat) (x1 : Int32) (x2 : Int32) (h : AH) : Option (Unit × AH) :=
  bd2 (f_X8_init_2 x0 x1 x2 (0 : Int32) h) fun r1 h2 =>
  some ((), h2)
theorem v_X8_init (D : va_G) (l : Launch) (hl : l.stackTraces = false) (as : List Value) (h0 : AH) {r : Unit} {hF : AH} (x0 : Nat) (x1 : Int32) (x2 : Int32) (h : AH) (e : f_X8_init x0 x1 x2 h = some (r, hF)) : V (G_X8_init D l as h0 hF (oV r)) h 0 [(0, .ref x0), (1, .int x1), (2, .int x2)] [] := by
  unfold f_X8_init at e
  refine v_aload_n (pc' := 1) hc_X8_init dX8_init_0 rfl rfl 0 rfl ?_
  refine v_iload_n (pc' := 2) hc_X8_init dX8_init_1 rfl rfl 1 rfl ?_
  refine v_iload_n (pc' := 3) hc_X8_init dX8_init_2 rfl rfl 2 rfl ?_
  refine v_iconst (pc' := 4) (v := 0) hc_X8_init dX8_init_3 rfl rfl ?_
  obtain ⟨r1, h2, e3, e⟩ := bd2_of e
  refine k_I (pc' := 7) (n := 3) hc_X8_init ho_X8_init (w_X8_init_2 D l hl x0 x1 x2 (0 : Int32) h e3) (wA_l q1125) q1126 q107 q1127 rfl hy_45 ⟨Nat.le_of_ble_eq_true rfl, Nat.le_of_ble_eq_true rfl⟩ rfl rfl (Nat.le_of_ble_eq_true rfl) dX8_init_4 rfl (kU ?_) kN
  obtain ⟨rfl, rfl⟩ := ret_of e
  exact v_ret hc_X8_init rfl dX8_init_7 rfl rfl
theorem w_X8_init (D : va_G) (l : Launch) (hl : l.stackTraces = false) (x0 : Nat) (x1 : Int32) (x2 : Int32) (h : AH) {r : Unit} {hF : AH} (e : f_X8_init x0 x1 x2 h = some (r, hF)) : MetV D l yX8_init (Cond.code yX8_init cX8_init 3 (Option.none : Option FieldType)) 2 71 [.ref x0, .int x1, .int x2] h hF (oV r) :=
  met_ofF (by decide +kernel) hl (Nat.le_of_ble_eq_true rfl) rfl (v_X8_init D l hl [.ref x0, .int x1, .int x2] h x0 x1 x2 h e)
/-! BlockPapers$Workshop.addBlock(IZ)I  -/
abbrev G_X2_addBlock (D : va_G) (l : Launch) (as : List Value) (h0 hF : AH) (o : Out) : CT := (D, l, (yX2_addBlock.cls, yX2_addBlock, cX2_addBlock, 3, (Option.some .int), 8, 200, []), as, h0, hF, o)
theorem hc_X2_addBlock {D : va_G} {l : Launch} {as : List Value} {h0 hF : AH} {o : Out} : gC (G_X2_addBlock D l as h0 hF o) = cX2_addBlock := rfl
theorem ho_X2_addBlock {D : va_G} {l : Launch} {as : List Value} {h0 hF : AH} {o : Out} : gO (G_X2_addBlock D l as h0 hF o) = "BlockPapers$Workshop" := rfl
theorem hp_X2_addBlock {D : va_G} {l : Launch} {as : List Value} {h0 hF : AH} {o : Out} (pc : Nat) : ∀ z ∈ tableOf (gHd (G_X2_addBlock D l as h0 hF o)), covers z pc = false := hpN
def f_X2_addBlock_j30 (x0 : Nat) (x1 : Int32) (x2 : Int32) (s0 : Int32) (h : AH) : Option ((Int32 ⊕ Nat) × AH) :=
  bdX (f_X1_allow s0 (1 : Int32) (6 : Int32) h) (fun zq19 h2 =>
    outX h2 zq19
  ) fun r1 h2 =>
  bd (gtR h2 1 x0 0) fun v4 =>
  bd2 (nwX h2 7 3 fsX8) fun a6 h5 =>
  bd2 (f_X8_init a6 x1 x2 h5) fun r7 h8 =>
  gd (isC h8 16 v4) <|
  bd2 (f_J2_add v4 a6 h8) fun r11 h12 =>
  bd (gtR h12 1 x0 0) fun v14 =>
  gd (isC h12 16 v14) <|
  bd2 (f_J2_size v14 h12) fun r16 h17 =>
  some (.inl (r16 - (1 : Int32)), h17)
theorem w_X2_addBlock_j30 (D : va_G) (l : Launch) (hl : l.stackTraces = false) (as : List Value) (h0 : AH) {r : (Int32 ⊕ Nat)} {hF : AH} (x0 : Nat) (x1 : Int32) (x2 : Int32) (s0 : Int32) (h : AH) (e : f_X2_addBlock_j30 x0 x1 x2 s0 h = some (r, hF)) : V (G_X2_addBlock D l as h0 hF ((oX oI) r)) h 30 [(0, .ref x0), (1, .int x1), (2, .int x2)] [.int s0] := by
  unfold f_X2_addBlock_j30 at e
  refine v_iconst (pc' := 31) (v := 1) hc_X2_addBlock dX2_addBlock_30 rfl rfl ?_
  refine v_bipush (pc' := 33) (v := 6) hc_X2_addBlock dX2_addBlock_31 rfl rfl ?_
  rcases bdX_of e with ⟨r1, h2, e3, e⟩ | ⟨zq19, h2, e3, e⟩
  · refine k_SN (pc' := 36) (x := ⟨"BlockPapers", "allow", "(ZII)V"⟩) (n := 3) hc_X2_addBlock ho_X2_addBlock (w_X1_allow D l hl s0 (1 : Int32) (6 : Int32) h e3) q1090 q1091 q75 q1092 hy_44 ⟨Nat.le_of_ble_eq_true rfl, Nat.le_of_ble_eq_true rfl⟩ rfl rfl (Nat.le_of_ble_eq_true rfl) dX2_addBlock_33 rfl (kU ?_) kN
    refine v_aload_n (pc' := 37) hc_X2_addBlock dX2_addBlock_36 rfl rfl 0 rfl ?_
    refine v_gfR (pc' := 40) hc_X2_addBlock ho_X2_addBlock KX2 0 (Nat.le_of_ble_eq_true rfl) q164 (Or.inl rfl) dX2_addBlock_37 rfl e (fun v4 _ e => ?_)
    refine v_newX (pc' := 43) hc_X2_addBlock ho_X2_addBlock KX8 q1120 q1121 q107 rfl dfX8 dX2_addBlock_40 rfl e (fun a6 h5 _ e => ?_)
    refine v_dup (pc' := 44) hc_X2_addBlock dX2_addBlock_43 rfl rfl ?_
    refine v_iload_n (pc' := 45) hc_X2_addBlock dX2_addBlock_44 rfl rfl 1 rfl ?_
    refine v_iload_n (pc' := 46) hc_X2_addBlock dX2_addBlock_45 rfl rfl 2 rfl ?_
    obtain ⟨r7, h8, e9, e⟩ := bd2_of e
    refine k_I (pc' := 49) (n := 2) hc_X2_addBlock ho_X2_addBlock (w_X8_init D l hl a6 x1 x2 h5 e9) (wA_l q1122) q1123 q107 q1124 rfl hy_46 ⟨Nat.le_of_ble_eq_true rfl, Nat.le_of_ble_eq_true rfl⟩ rfl rfl (Nat.le_of_ble_eq_true rfl) dX2_addBlock_46 rfl (kU ?_) kN
    obtain ⟨c10, e⟩ := gd_of e
    obtain ⟨r11, h12, e13, e⟩ := bd2_of e
    refine k_F (pc' := 54) (x := ⟨"java/util/List", "add", "(Ljava/lang/Object;)Z"⟩) (y := ⟨"java/util/ArrayList", "add", "(Ljava/lang/Object;)Z"⟩) (ci := 16) (n := 1) hc_X2_addBlock ho_X2_addBlock rfl c10 (w_J2_add D l hl v4 a6 h8 e13) (wA_l q904) (by decide +kernel) q907 q909 q79 q911 hy_28 ⟨Nat.le_of_ble_eq_true rfl, Nat.le_of_ble_eq_true rfl⟩ rfl rfl (Nat.le_of_ble_eq_true rfl) dX2_addBlock_49 rfl (kS ?_) kN
    refine v_pop (pc' := 55) hc_X2_addBlock dX2_addBlock_54 rfl rfl ?_
    refine v_aload_n (pc' := 56) hc_X2_addBlock dX2_addBlock_55 rfl rfl 0 rfl ?_
    refine v_gfR (pc' := 59) hc_X2_addBlock ho_X2_addBlock KX2 0 (Nat.le_of_ble_eq_true rfl) q164 (Or.inl rfl) dX2_addBlock_56 rfl e (fun v14 _ e => ?_)
    obtain ⟨c15, e⟩ := gd_of e
    obtain ⟨r16, h17, e18, e⟩ := bd2_of e
    refine k_F (pc' := 64) (x := ⟨"java/util/List", "size", "()I"⟩) (y := ⟨"java/util/ArrayList", "size", "()I"⟩) (ci := 16) (n := 0) hc_X2_addBlock ho_X2_addBlock rfl c15 (w_J2_size D l hl v14 h12 e18) (wA_l q513) (by decide +kernel) q348 q350 q79 q352 hy_19 ⟨Nat.le_of_ble_eq_true rfl, Nat.le_of_ble_eq_true rfl⟩ rfl rfl (Nat.le_of_ble_eq_true rfl) dX2_addBlock_59 rfl (kS ?_) kN
    refine v_iconst (pc' := 65) (v := 1) hc_X2_addBlock dX2_addBlock_64 rfl rfl ?_
    refine v_isub (pc' := 66) hc_X2_addBlock dX2_addBlock_65 rfl ?_
    obtain ⟨rfl, rfl⟩ := ret_of e
    exact v_iret hc_X2_addBlock rfl dX2_addBlock_66 rfl rfl
  · refine k_SN (pc' := 36) (x := ⟨"BlockPapers", "allow", "(ZII)V"⟩) (n := 3) hc_X2_addBlock ho_X2_addBlock (w_X1_allow D l hl s0 (1 : Int32) (6 : Int32) h e3) q1090 q1091 q75 q1092 hy_44 ⟨Nat.le_of_ble_eq_true rfl, Nat.le_of_ble_eq_true rfl⟩ rfl rfl (Nat.le_of_ble_eq_true rfl) dX2_addBlock_33 rfl kM (kX ?_)
    exact v_outA (hp_X2_addBlock _) rfl rfl e
def f_X2_addBlock (x0 : Nat) (x1 : Int32) (x2 : Int32) (h : AH) : Option ((Int32 ⊕ Nat) × AH) :=
  bd2 (f_X1_inRange x1 (10 : Int32) (90 : Int32) h) fun r1 h2 =>
  bdX (f_X1_require r1 h2) (fun zq12 h5 =>
    outX h5 zq12
  ) fun r4 h5 =>
  bd (gtR h5 1 x0 0) fun v7 =>
  gd (isC h5 16 v7) <|
  bd2 (f_J2_size v7 h5) fun r9 h10 =>
  if (6 : Int32) ≤ r9 then (
    f_X2_addBlock_j30 x0 x1 x2 (0 : Int32) h10
  ) else (
    f_X2_addBlock_j30 x0 x1 x2 (1 : Int32) h10
  )
theorem v_X2_addBlock (D : va_G) (l : Launch) (hl : l.stackTraces = false) (as : List Value) (h0 : AH) {r : (Int32 ⊕ Nat)} {hF : AH} (x0 : Nat) (x1 : Int32) (x2 : Int32) (h : AH) (e : f_X2_addBlock x0 x1 x2 h = some (r, hF)) : V (G_X2_addBlock D l as h0 hF ((oX oI) r)) h 0 [(0, .ref x0), (1, .int x1), (2, .int x2)] [] := by
  unfold f_X2_addBlock at e
  refine v_iload_n (pc' := 1) hc_X2_addBlock dX2_addBlock_0 rfl rfl 1 rfl ?_
  refine v_bipush (pc' := 3) (v := 10) hc_X2_addBlock dX2_addBlock_1 rfl rfl ?_
  refine v_bipush (pc' := 5) (v := 90) hc_X2_addBlock dX2_addBlock_3 rfl rfl ?_
  obtain ⟨r1, h2, e3, e⟩ := bd2_of e
  refine k_SN (pc' := 8) (x := ⟨"BlockPapers", "inRange", "(III)Z"⟩) (n := 3) hc_X2_addBlock ho_X2_addBlock (w_X1_inRange D l hl x1 (10 : Int32) (90 : Int32) h e3) q1088 q267 q75 q268 hy_39 ⟨Nat.le_of_ble_eq_true rfl, Nat.le_of_ble_eq_true rfl⟩ rfl rfl (Nat.le_of_ble_eq_true rfl) dX2_addBlock_5 rfl (kS ?_) kN
  rcases bdX_of e with ⟨r4, h5, e6, e⟩ | ⟨zq12, h5, e6, e⟩
  · refine k_SN (pc' := 11) (x := ⟨"BlockPapers", "require", "(Z)V"⟩) (n := 1) hc_X2_addBlock ho_X2_addBlock (w_X1_require D l hl r1 h2 e6) q1089 q270 q75 q271 hy_40 ⟨Nat.le_of_ble_eq_true rfl, Nat.le_of_ble_eq_true rfl⟩ rfl rfl (Nat.le_of_ble_eq_true rfl) dX2_addBlock_8 rfl (kU ?_) kN
    refine v_aload_n (pc' := 12) hc_X2_addBlock dX2_addBlock_11 rfl rfl 0 rfl ?_
    refine v_gfR (pc' := 15) hc_X2_addBlock ho_X2_addBlock KX2 0 (Nat.le_of_ble_eq_true rfl) q164 (Or.inl rfl) dX2_addBlock_12 rfl e (fun v7 _ e => ?_)
    obtain ⟨c8, e⟩ := gd_of e
    obtain ⟨r9, h10, e11, e⟩ := bd2_of e
    refine k_F (pc' := 20) (x := ⟨"java/util/List", "size", "()I"⟩) (y := ⟨"java/util/ArrayList", "size", "()I"⟩) (ci := 16) (n := 0) hc_X2_addBlock ho_X2_addBlock rfl c8 (w_J2_size D l hl v7 h5 e11) (wA_l q513) (by decide +kernel) q348 q350 q79 q352 hy_19 ⟨Nat.le_of_ble_eq_true rfl, Nat.le_of_ble_eq_true rfl⟩ rfl rfl (Nat.le_of_ble_eq_true rfl) dX2_addBlock_15 rfl (kS ?_) kN
    refine v_bipush (pc' := 22) (v := 6) hc_X2_addBlock dX2_addBlock_20 rfl rfl ?_
    refine v_icmp_ge (pt := 29) (pf := 25) hc_X2_addBlock dX2_addBlock_22 rfl rfl e (fun _ e => ?_) (fun _ e => ?_)
    · refine v_iconst (pc' := 30) (v := 0) hc_X2_addBlock dX2_addBlock_29 rfl rfl ?_
      exact w_X2_addBlock_j30 D l hl as h0 x0 x1 x2 (0 : Int32) h10 e
    · refine v_iconst (pc' := 26) (v := 1) hc_X2_addBlock dX2_addBlock_25 rfl rfl ?_
      refine v_goto (pt := 30) hc_X2_addBlock dX2_addBlock_26 rfl ?_
      exact w_X2_addBlock_j30 D l hl as h0 x0 x1 x2 (1 : Int32) h10 e
  · refine k_SN (pc' := 11) (x := ⟨"BlockPapers", "require", "(Z)V"⟩) (n := 1) hc_X2_addBlock ho_X2_addBlock (w_X1_require D l hl r1 h2 e6) q1089 q270 q75 q271 hy_40 ⟨Nat.le_of_ble_eq_true rfl, Nat.le_of_ble_eq_true rfl⟩ rfl rfl (Nat.le_of_ble_eq_true rfl) dX2_addBlock_8 rfl kM (kX ?_)
    exact v_outA (hp_X2_addBlock _) rfl rfl e
theorem w_X2_addBlock (D : va_G) (l : Launch) (hl : l.stackTraces = false) (x0 : Nat) (x1 : Int32) (x2 : Int32) (h : AH) {r : (Int32 ⊕ Nat)} {hF : AH} (e : f_X2_addBlock x0 x1 x2 h = some (r, hF)) : MetV D l yX2_addBlock (Cond.code yX2_addBlock cX2_addBlock 3 (Option.some .int)) 8 200 [.ref x0, .int x1, .int x2] h hF ((oX oI) r) :=
  met_ofF (by decide +kernel) hl (Nat.le_of_ble_eq_true rfl) rfl (v_X2_addBlock D l hl [.ref x0, .int x1, .int x2] h x0 x1 x2 h e)
/-! BlockPapers.requireIndex(Z)V  -/
abbrev G_X1_requireIndex (D : va_G) (l : Launch) (as : List Value) (h0 hF : AH) (o : Out) : CT := (D, l, (yX1_requireIndex.cls, yX1_requireIndex, cX1_requireIndex, 1, (Option.none : Option FieldType), 6, 89, []), as, h0, hF, o)
theorem hc_X1_requireIndex {D : va_G} {l : Launch} {as : List Value} {h0 hF : AH} {o : Out} : gC (G_X1_requireIndex D l as h0 hF o) = cX1_requireIndex := rfl
theorem ho_X1_requireIndex {D : va_G} {l : Launch} {as : List Value} {h0 hF : AH} {o : Out} : gO (G_X1_requireIndex D l as h0 hF o) = "BlockPapers" := rfl
theorem hp_X1_requireIndex {D : va_G} {l : Launch} {as : List Value} {h0 hF : AH} {o : Out} (pc : Nat) : ∀ z ∈ tableOf (gHd (G_X1_requireIndex D l as h0 hF o)), covers z pc = false := hpN
def f_X1_requireIndex (x0 : Int32) (h : AH) : Option ((Unit ⊕ Nat) × AH) :=
  if x0 = 0 then (
    bd2 (nwX h 22 6 []) fun a2 h1 =>
    outX h1 a2
  ) else (
    some (.inl (), h)
  )
theorem v_X1_requireIndex (D : va_G) (l : Launch) (hl : l.stackTraces = false) (as : List Value) (h0 : AH) {r : (Unit ⊕ Nat)} {hF : AH} (x0 : Int32) (h : AH) (e : f_X1_requireIndex x0 h = some (r, hF)) : V (G_X1_requireIndex D l as h0 hF ((oX oV) r)) h 0 [(0, .int x0)] [] := by
  unfold f_X1_requireIndex at e
  refine v_iload_n (pc' := 1) hc_X1_requireIndex dX1_requireIndex_0 rfl rfl 0 rfl ?_
  refine v_if_ne (pt := 12) (pf := 4) hc_X1_requireIndex dX1_requireIndex_1 rfl rfl e (fun _ e => ?_) (fun _ e => ?_)
  · refine v_makeX (pc' := 11) (ci := 22) (names := ["java/lang/RuntimeException", "java/lang/Exception"]) hc_X1_requireIndex ho_X1_requireIndex hl (by decide +kernel) (by decide +kernel) q1154 q104 (by decide +kernel) rfl (by decide) ⟨Nat.le_of_ble_eq_true rfl, Nat.le_of_ble_eq_true rfl⟩ dX1_requireIndex_4 dX1_requireIndex_7 dX1_requireIndex_8 rfl e (fun a2 h1 _ e => ?_)
    refine v_athrow hc_X1_requireIndex dX1_requireIndex_11 ?_
    exact v_outA (hp_X1_requireIndex _) rfl rfl e
  · obtain ⟨rfl, rfl⟩ := ret_of e
    exact v_ret hc_X1_requireIndex rfl dX1_requireIndex_12 rfl rfl
theorem w_X1_requireIndex (D : va_G) (l : Launch) (hl : l.stackTraces = false) (x0 : Int32) (h : AH) {r : (Unit ⊕ Nat)} {hF : AH} (e : f_X1_requireIndex x0 h = some (r, hF)) : MetV D l yX1_requireIndex (Cond.code yX1_requireIndex cX1_requireIndex 1 (Option.none : Option FieldType)) 6 89 [.int x0] h hF ((oX oV) r) :=
  met_ofF (by decide +kernel) hl (Nat.le_of_ble_eq_true rfl) rfl (v_X1_requireIndex D l hl [.int x0] h x0 h e)
/-! BlockPapers$Workshop.block(I)LBlockPapers$Block;  -/
abbrev G_X2_block (D : va_G) (l : Launch) (as : List Value) (h0 hF : AH) (o : Out) : CT := (D, l, (yX2_block.cls, yX2_block, cX2_block, 2, (Option.some (.object "BlockPapers$Block")), 7, 112, []), as, h0, hF, o)
theorem hc_X2_block {D : va_G} {l : Launch} {as : List Value} {h0 hF : AH} {o : Out} : gC (G_X2_block D l as h0 hF o) = cX2_block := rfl
theorem ho_X2_block {D : va_G} {l : Launch} {as : List Value} {h0 hF : AH} {o : Out} : gO (G_X2_block D l as h0 hF o) = "BlockPapers$Workshop" := rfl
theorem hp_X2_block {D : va_G} {l : Launch} {as : List Value} {h0 hF : AH} {o : Out} (pc : Nat) : ∀ z ∈ tableOf (gHd (G_X2_block D l as h0 hF o)), covers z pc = false := hpN
def f_X2_block (x0 : Nat) (x1 : Int32) (h : AH) : Option ((Nat ⊕ Nat) × AH) :=
  bd (gtR h 1 x0 0) fun v1 =>
  gd (isC h 16 v1) <|
  bd2 (f_J2_size v1 h) fun r3 h4 =>
  bd2 (f_X1_inRange x1 (0 : Int32) (r3 - (1 : Int32)) h4) fun r6 h7 =>
  bdX (f_X1_requireIndex r6 h7) (fun zq18 h10 =>
    outX h10 zq18
  ) fun r9 h10 =>
  bd (gtR h10 1 x0 0) fun v12 =>
  gd (isC h10 16 v12) <|
  bd2 (f_J2_get v12 x1 h10) fun r14 h15 =>
  gd (isC h15 7 r14) <|
  some (.inl r14, h15)
theorem v_X2_block (D : va_G) (l : Launch) (hl : l.stackTraces = false) (as : List Value) (h0 : AH) {r : (Nat ⊕ Nat)} {hF : AH} (x0 : Nat) (x1 : Int32) (h : AH) (e : f_X2_block x0 x1 h = some (r, hF)) : V (G_X2_block D l as h0 hF ((oX oR) r)) h 0 [(0, .ref x0), (1, .int x1)] [] := by
  unfold f_X2_block at e
  refine v_iload_n (pc' := 1) hc_X2_block dX2_block_0 rfl rfl 1 rfl ?_
  refine v_iconst (pc' := 2) (v := 0) hc_X2_block dX2_block_1 rfl rfl ?_
  refine v_aload_n (pc' := 3) hc_X2_block dX2_block_2 rfl rfl 0 rfl ?_
  refine v_gfR (pc' := 6) hc_X2_block ho_X2_block KX2 0 (Nat.le_of_ble_eq_true rfl) q164 (Or.inl rfl) dX2_block_3 rfl e (fun v1 _ e => ?_)
  obtain ⟨c2, e⟩ := gd_of e
  obtain ⟨r3, h4, e5, e⟩ := bd2_of e
  refine k_F (pc' := 11) (x := ⟨"java/util/List", "size", "()I"⟩) (y := ⟨"java/util/ArrayList", "size", "()I"⟩) (ci := 16) (n := 0) hc_X2_block ho_X2_block rfl c2 (w_J2_size D l hl v1 h e5) (wA_l q513) (by decide +kernel) q348 q350 q79 q352 hy_19 ⟨Nat.le_of_ble_eq_true rfl, Nat.le_of_ble_eq_true rfl⟩ rfl rfl (Nat.le_of_ble_eq_true rfl) dX2_block_6 rfl (kS ?_) kN
  refine v_iconst (pc' := 12) (v := 1) hc_X2_block dX2_block_11 rfl rfl ?_
  refine v_isub (pc' := 13) hc_X2_block dX2_block_12 rfl ?_
  obtain ⟨r6, h7, e8, e⟩ := bd2_of e
  refine k_SN (pc' := 16) (x := ⟨"BlockPapers", "inRange", "(III)Z"⟩) (n := 3) hc_X2_block ho_X2_block (w_X1_inRange D l hl x1 (0 : Int32) (r3 - (1 : Int32)) h4 e8) q1088 q267 q75 q268 hy_39 ⟨Nat.le_of_ble_eq_true rfl, Nat.le_of_ble_eq_true rfl⟩ rfl rfl (Nat.le_of_ble_eq_true rfl) dX2_block_13 rfl (kS ?_) kN
  rcases bdX_of e with ⟨r9, h10, e11, e⟩ | ⟨zq18, h10, e11, e⟩
  · refine k_SN (pc' := 19) (x := ⟨"BlockPapers", "requireIndex", "(Z)V"⟩) (n := 1) hc_X2_block ho_X2_block (w_X1_requireIndex D l hl r6 h7 e11) q1151 q1152 q75 q1153 hy_48 ⟨Nat.le_of_ble_eq_true rfl, Nat.le_of_ble_eq_true rfl⟩ rfl rfl (Nat.le_of_ble_eq_true rfl) dX2_block_16 rfl (kU ?_) kN
    refine v_aload_n (pc' := 20) hc_X2_block dX2_block_19 rfl rfl 0 rfl ?_
    refine v_gfR (pc' := 23) hc_X2_block ho_X2_block KX2 0 (Nat.le_of_ble_eq_true rfl) q164 (Or.inl rfl) dX2_block_20 rfl e (fun v12 _ e => ?_)
    refine v_iload_n (pc' := 24) hc_X2_block dX2_block_23 rfl rfl 1 rfl ?_
    obtain ⟨c13, e⟩ := gd_of e
    obtain ⟨r14, h15, e16, e⟩ := bd2_of e
    refine k_F (pc' := 29) (x := ⟨"java/util/List", "get", "(I)Ljava/lang/Object;"⟩) (y := ⟨"java/util/ArrayList", "get", "(I)Ljava/lang/Object;"⟩) (ci := 16) (n := 1) hc_X2_block ho_X2_block rfl c13 (w_J2_get D l hl v12 x1 h10 e16) (wA_l q515) (by decide +kernel) q401 q403 q79 q405 hy_23 ⟨Nat.le_of_ble_eq_true rfl, Nat.le_of_ble_eq_true rfl⟩ rfl rfl (Nat.le_of_ble_eq_true rfl) dX2_block_24 rfl (kS ?_) kN
    obtain ⟨c17, e⟩ := gd_of e
    refine v_cast (pc' := 32) (ci := 7) hc_X2_block ho_X2_block rfl q1120 (Or.inl rfl) dX2_block_29 rfl c17 ?_
    obtain ⟨rfl, rfl⟩ := ret_of e
    exact v_aret hc_X2_block rfl (Or.inl ⟨_, rfl⟩) (Or.inr ⟨_, rfl⟩) dX2_block_32 rfl rfl
  · refine k_SN (pc' := 19) (x := ⟨"BlockPapers", "requireIndex", "(Z)V"⟩) (n := 1) hc_X2_block ho_X2_block (w_X1_requireIndex D l hl r6 h7 e11) q1151 q1152 q75 q1153 hy_48 ⟨Nat.le_of_ble_eq_true rfl, Nat.le_of_ble_eq_true rfl⟩ rfl rfl (Nat.le_of_ble_eq_true rfl) dX2_block_16 rfl kM (kX ?_)
    exact v_outA (hp_X2_block _) rfl rfl e
theorem w_X2_block (D : va_G) (l : Launch) (hl : l.stackTraces = false) (x0 : Nat) (x1 : Int32) (h : AH) {r : (Nat ⊕ Nat)} {hF : AH} (e : f_X2_block x0 x1 h = some (r, hF)) : MetV D l yX2_block (Cond.code yX2_block cX2_block 2 (Option.some (.object "BlockPapers$Block"))) 7 112 [.ref x0, .int x1] h hF ((oX oR) r) :=
  met_ofF (by decide +kernel) hl (Nat.le_of_ble_eq_true rfl) rfl (v_X2_block D l hl [.ref x0, .int x1] h x0 x1 h e)
/-! BlockPapers$Block.carved()LBlockPapers$Block;  -/
abbrev G_X8_carved (D : va_G) (l : Launch) (as : List Value) (h0 hF : AH) (o : Out) : CT := (D, l, (yX8_carved.cls, yX8_carved, cX8_carved, 1, (Option.some (.object "BlockPapers$Block")), 2, 71, []), as, h0, hF, o)
theorem hc_X8_carved {D : va_G} {l : Launch} {as : List Value} {h0 hF : AH} {o : Out} : gC (G_X8_carved D l as h0 hF o) = cX8_carved := rfl
theorem ho_X8_carved {D : va_G} {l : Launch} {as : List Value} {h0 hF : AH} {o : Out} : gO (G_X8_carved D l as h0 hF o) = "BlockPapers$Block" := rfl
theorem hp_X8_carved {D : va_G} {l : Launch} {as : List Value} {h0 hF : AH} {o : Out} (pc : Nat) : ∀ z ∈ tableOf (gHd (G_X8_carved D l as h0 hF o)), covers z pc = false := hpN
def f_X8_carved (x0 : Nat) (h : AH) : Option (Nat × AH) :=
  bd2 (nwX h 7 3 fsX8) fun a2 h1 =>
  bd (gtI h1 7 x0 0) fun v3 =>
  bd (gtI h1 7 x0 1) fun v4 =>
  bd2 (f_X8_init_2 a2 v3 v4 (0 : Int32) h1) fun r5 h6 =>
  some (a2, h6)
theorem v_X8_carved (D : va_G) (l : Launch) (hl : l.stackTraces = false) (as : List Value) (h0 : AH) {r : Nat} {hF : AH} (x0 : Nat) (h : AH) (e : f_X8_carved x0 h = some (r, hF)) : V (G_X8_carved D l as h0 hF (oR r)) h 0 [(0, .ref x0)] [] := by
  unfold f_X8_carved at e
  refine v_newX (pc' := 3) hc_X8_carved ho_X8_carved KX8 q1173 q1121 q107 rfl dfX8 dX8_carved_0 rfl e (fun a2 h1 _ e => ?_)
  refine v_dup (pc' := 4) hc_X8_carved dX8_carved_3 rfl rfl ?_
  refine v_aload_n (pc' := 5) hc_X8_carved dX8_carved_4 rfl rfl 0 rfl ?_
  refine v_gfI (pc' := 8) hc_X8_carved ho_X8_carved KX8 0 (Nat.le_of_ble_eq_true rfl) q1129 (Or.inl rfl) dX8_carved_5 rfl e (fun v3 _ e => ?_)
  refine v_aload_n (pc' := 9) hc_X8_carved dX8_carved_8 rfl rfl 0 rfl ?_
  refine v_gfI (pc' := 12) hc_X8_carved ho_X8_carved KX8 1 (Nat.le_of_ble_eq_true rfl) q1131 (Or.inl rfl) dX8_carved_9 rfl e (fun v4 _ e => ?_)
  refine v_iconst (pc' := 13) (v := 0) hc_X8_carved dX8_carved_12 rfl rfl ?_
  obtain ⟨r5, h6, e7, e⟩ := bd2_of e
  refine k_I (pc' := 16) (n := 3) hc_X8_carved ho_X8_carved (w_X8_init_2 D l hl a2 v3 v4 (0 : Int32) h1 e7) (wA_l q1125) q1126 q107 q1127 rfl hy_45 ⟨Nat.le_of_ble_eq_true rfl, Nat.le_of_ble_eq_true rfl⟩ rfl rfl (Nat.le_of_ble_eq_true rfl) dX8_carved_13 rfl (kU ?_) kN
  obtain ⟨rfl, rfl⟩ := ret_of e
  exact v_aret hc_X8_carved rfl (Or.inl ⟨_, rfl⟩) (Or.inr ⟨_, rfl⟩) dX8_carved_16 rfl rfl
theorem w_X8_carved (D : va_G) (l : Launch) (hl : l.stackTraces = false) (x0 : Nat) (h : AH) {r : Nat} {hF : AH} (e : f_X8_carved x0 h = some (r, hF)) : MetV D l yX8_carved (Cond.code yX8_carved cX8_carved 1 (Option.some (.object "BlockPapers$Block"))) 2 71 [.ref x0] h hF (oR r) :=
  met_ofF (by decide +kernel) hl (Nat.le_of_ble_eq_true rfl) rfl (v_X8_carved D l hl [.ref x0] h x0 h e)
/-! BlockPapers$Workshop.carve(I)I  -/
abbrev G_X2_carve (D : va_G) (l : Launch) (as : List Value) (h0 hF : AH) (o : Out) : CT := (D, l, (yX2_carve.cls, yX2_carve, cX2_carve, 4, (Option.some .int), 8, 133, []), as, h0, hF, o)
theorem hc_X2_carve {D : va_G} {l : Launch} {as : List Value} {h0 hF : AH} {o : Out} : gC (G_X2_carve D l as h0 hF o) = cX2_carve := rfl
theorem ho_X2_carve {D : va_G} {l : Launch} {as : List Value} {h0 hF : AH} {o : Out} : gO (G_X2_carve D l as h0 hF o) = "BlockPapers$Workshop" := rfl
theorem hp_X2_carve {D : va_G} {l : Launch} {as : List Value} {h0 hF : AH} {o : Out} (pc : Nat) : ∀ z ∈ tableOf (gHd (G_X2_carve D l as h0 hF o)), covers z pc = false := hpN
def f_X2_carve (x0 : Nat) (x1 : Int32) (h : AH) : Option ((Int32 ⊕ Nat) × AH) :=
  gd (isC h 1 x0) <|
  bdX (f_X2_block x0 x1 h) (fun zq16 h3 =>
    outX h3 zq16
  ) fun r2 h3 =>
  bd (gtR h3 1 x0 0) fun v5 =>
  gd (isC h3 7 r2) <|
  bd2 (f_X8_carved r2 h3) fun r7 h8 =>
  gd (isC h8 16 v5) <|
  bd2 (f_J2_set v5 x1 r7 h8) fun r11 h12 =>
  gd (isC h12 7 r11) <|
  bd (gtI h12 7 r11 2) fun v15 =>
  some (.inl v15, h12)
theorem v_X2_carve (D : va_G) (l : Launch) (hl : l.stackTraces = false) (as : List Value) (h0 : AH) {r : (Int32 ⊕ Nat)} {hF : AH} (x0 : Nat) (x1 : Int32) (h : AH) (e : f_X2_carve x0 x1 h = some (r, hF)) : V (G_X2_carve D l as h0 hF ((oX oI) r)) h 0 [(0, .ref x0), (1, .int x1)] [] := by
  unfold f_X2_carve at e
  refine v_aload_n (pc' := 1) hc_X2_carve dX2_carve_0 rfl rfl 0 rfl ?_
  refine v_iload_n (pc' := 2) hc_X2_carve dX2_carve_1 rfl rfl 1 rfl ?_
  obtain ⟨c1, e⟩ := gd_of e
  rcases bdX_of e with ⟨r2, h3, e4, e⟩ | ⟨zq16, h3, e4, e⟩
  · refine k_V (pc' := 5) (ci := 1) (n := 1) hc_X2_carve ho_X2_carve rfl c1 (w_X2_block D l hl x0 x1 h e4) (wA_l q1147) q1148 (wA_l q1149) q76 q1150 hy_49 ⟨Nat.le_of_ble_eq_true rfl, Nat.le_of_ble_eq_true rfl⟩ rfl rfl (Nat.le_of_ble_eq_true rfl) dX2_carve_2 rfl (kS ?_) kN
    refine v_astore_n (pc' := 6) (lv' := [(2, .ref r2), (0, .ref x0), (1, .int x1)]) hc_X2_carve dX2_carve_5 rfl rfl (Nat.le_of_ble_eq_true rfl) rfl ?_
    refine v_aload_n (pc' := 7) hc_X2_carve dX2_carve_6 rfl rfl 1 rfl ?_
    refine v_gfR (pc' := 10) hc_X2_carve ho_X2_carve KX2 0 (Nat.le_of_ble_eq_true rfl) q164 (Or.inl rfl) dX2_carve_7 rfl e (fun v5 _ e => ?_)
    refine v_iload_n (pc' := 11) hc_X2_carve dX2_carve_10 rfl rfl 2 rfl ?_
    refine v_aload_n (pc' := 12) hc_X2_carve dX2_carve_11 rfl rfl 0 rfl ?_
    obtain ⟨c6, e⟩ := gd_of e
    obtain ⟨r7, h8, e9, e⟩ := bd2_of e
    refine k_V (pc' := 15) (ci := 7) (n := 0) hc_X2_carve ho_X2_carve rfl c6 (w_X8_carved D l hl r2 h3 e9) (wA_l q1169) q1170 (wA_l q1171) q107 q1172 hy_50 ⟨Nat.le_of_ble_eq_true rfl, Nat.le_of_ble_eq_true rfl⟩ rfl rfl (Nat.le_of_ble_eq_true rfl) dX2_carve_12 rfl (kS ?_) kN
    obtain ⟨c10, e⟩ := gd_of e
    obtain ⟨r11, h12, e13, e⟩ := bd2_of e
    refine k_F (pc' := 20) (x := ⟨"java/util/List", "set", "(ILjava/lang/Object;)Ljava/lang/Object;"⟩) (y := ⟨"java/util/ArrayList", "set", "(ILjava/lang/Object;)Ljava/lang/Object;"⟩) (ci := 16) (n := 2) hc_X2_carve ho_X2_carve rfl c10 (w_J2_set D l hl v5 x1 r7 h8 e13) (wA_l q1175) (by decide +kernel) q1178 q1180 q79 q1182 hy_51 ⟨Nat.le_of_ble_eq_true rfl, Nat.le_of_ble_eq_true rfl⟩ rfl rfl (Nat.le_of_ble_eq_true rfl) dX2_carve_15 rfl (kS ?_) kN
    obtain ⟨c14, e⟩ := gd_of e
    refine v_cast (pc' := 23) (ci := 7) hc_X2_carve ho_X2_carve rfl q1120 (Or.inl rfl) dX2_carve_20 rfl c14 ?_
    refine v_astore_n (pc' := 24) (lv' := [(3, .ref r11), (2, .ref r2), (0, .ref x0), (1, .int x1)]) hc_X2_carve dX2_carve_23 rfl rfl (Nat.le_of_ble_eq_true rfl) rfl ?_
    refine v_aload_n (pc' := 25) hc_X2_carve dX2_carve_24 rfl rfl 0 rfl ?_
    refine v_gnI (pc' := 28) hc_X2_carve ho_X2_carve KX8 2 (Nat.le_of_ble_eq_true rfl) q1134 rfl dX2_carve_25 rfl e (fun v15 _ e => ?_)
    obtain ⟨rfl, rfl⟩ := ret_of e
    exact v_iret hc_X2_carve rfl dX2_carve_28 rfl rfl
  · refine k_V (pc' := 5) (ci := 1) (n := 1) hc_X2_carve ho_X2_carve rfl c1 (w_X2_block D l hl x0 x1 h e4) (wA_l q1147) q1148 (wA_l q1149) q76 q1150 hy_49 ⟨Nat.le_of_ble_eq_true rfl, Nat.le_of_ble_eq_true rfl⟩ rfl rfl (Nat.le_of_ble_eq_true rfl) dX2_carve_2 rfl kM (kX ?_)
    exact v_outA (hp_X2_carve _) rfl rfl e
theorem w_X2_carve (D : va_G) (l : Launch) (hl : l.stackTraces = false) (x0 : Nat) (x1 : Int32) (h : AH) {r : (Int32 ⊕ Nat)} {hF : AH} (e : f_X2_carve x0 x1 h = some (r, hF)) : MetV D l yX2_carve (Cond.code yX2_carve cX2_carve 4 (Option.some .int)) 8 133 [.ref x0, .int x1] h hF ((oX oI) r) :=
  met_ofF (by decide +kernel) hl (Nat.le_of_ble_eq_true rfl) rfl (v_X2_carve D l hl [.ref x0, .int x1] h x0 x1 h e)
/-! BlockPapers$Ink.<init>(III)V  -/
abbrev G_X9_init (D : va_G) (l : Launch) (as : List Value) (h0 hF : AH) (o : Out) : CT := (D, l, (yX9_init.cls, yX9_init, cX9_init, 4, (Option.none : Option FieldType), 1, 48, []), as, h0, hF, o)
theorem hc_X9_init {D : va_G} {l : Launch} {as : List Value} {h0 hF : AH} {o : Out} : gC (G_X9_init D l as h0 hF o) = cX9_init := rfl
theorem ho_X9_init {D : va_G} {l : Launch} {as : List Value} {h0 hF : AH} {o : Out} : gO (G_X9_init D l as h0 hF o) = "BlockPapers$Ink" := rfl
theorem hp_X9_init {D : va_G} {l : Launch} {as : List Value} {h0 hF : AH} {o : Out} (pc : Nat) : ∀ z ∈ tableOf (gHd (G_X9_init D l as h0 hF o)), covers z pc = false := hpN
def f_X9_init (x0 : Nat) (x1 : Int32) (x2 : Int32) (x3 : Int32) (h : AH) : Option (Unit × AH) :=
  bd (stF h 8 x0 0 (.int x1)) fun h1 =>
  bd (stF h1 8 x0 1 (.int x2)) fun h2 =>
  bd (stF h2 8 x0 2 (.int x3)) fun h3 =>
  some ((), h3)
theorem v_X9_init (D : va_G) (l : Launch) (hl : l.stackTraces = false) (as : List Value) (h0 : AH) {r : Unit} {hF : AH} (x0 : Nat) (x1 : Int32) (x2 : Int32) (x3 : Int32) (h : AH) (e : f_X9_init x0 x1 x2 x3 h = some (r, hF)) : V (G_X9_init D l as h0 hF (oV r)) h 0 [(0, .ref x0), (1, .int x1), (2, .int x2), (3, .int x3)] [] := by
  unfold f_X9_init at e
  refine v_aload_n (pc' := 1) hc_X9_init dX9_init_0 rfl rfl 0 rfl ?_
  refine v_oinit (pc' := 4) hc_X9_init ho_X9_init q1192 q127 q128 ⟨Nat.le_of_ble_eq_true rfl, Nat.le_of_ble_eq_true rfl⟩ dX9_init_1 rfl ?_
  refine v_aload_n (pc' := 5) hc_X9_init dX9_init_4 rfl rfl 0 rfl ?_
  refine v_iload_n (pc' := 6) hc_X9_init dX9_init_5 rfl rfl 1 rfl ?_
  refine v_pfF (pc' := 9) hc_X9_init ho_X9_init rfl KX9 0 (Nat.le_of_ble_eq_true rfl) q1193 rfl rfl rfl dX9_init_6 rfl rfl rfl e (fun h1 _ e => ?_)
  refine v_aload_n (pc' := 10) hc_X9_init dX9_init_9 rfl rfl 0 rfl ?_
  refine v_iload_n (pc' := 11) hc_X9_init dX9_init_10 rfl rfl 2 rfl ?_
  refine v_pfF (pc' := 14) hc_X9_init ho_X9_init rfl KX9 1 (Nat.le_of_ble_eq_true rfl) q1196 rfl rfl rfl dX9_init_11 rfl rfl rfl e (fun h2 _ e => ?_)
  refine v_aload_n (pc' := 15) hc_X9_init dX9_init_14 rfl rfl 0 rfl ?_
  refine v_iload_n (pc' := 16) hc_X9_init dX9_init_15 rfl rfl 3 rfl ?_
  refine v_pfF (pc' := 19) hc_X9_init ho_X9_init rfl KX9 2 (Nat.le_of_ble_eq_true rfl) q1199 rfl rfl rfl dX9_init_16 rfl rfl rfl e (fun h3 _ e => ?_)
  obtain ⟨rfl, rfl⟩ := ret_of e
  exact v_ret hc_X9_init rfl dX9_init_19 rfl rfl
theorem w_X9_init (D : va_G) (l : Launch) (hl : l.stackTraces = false) (x0 : Nat) (x1 : Int32) (x2 : Int32) (x3 : Int32) (h : AH) {r : Unit} {hF : AH} (e : f_X9_init x0 x1 x2 x3 h = some (r, hF)) : MetV D l yX9_init (Cond.code yX9_init cX9_init 4 (Option.none : Option FieldType)) 1 48 [.ref x0, .int x1, .int x2, .int x3] h hF (oV r) :=
  met_ofF (by decide +kernel) hl (Nat.le_of_ble_eq_true rfl) rfl (v_X9_init D l hl [.ref x0, .int x1, .int x2, .int x3] h x0 x1 x2 x3 h e)
/-! BlockPapers$Workshop.addInk(III)I  -/
abbrev G_X2_addInk (D : va_G) (l : Launch) (as : List Value) (h0 hF : AH) (o : Out) : CT := (D, l, (yX2_addInk.cls, yX2_addInk, cX2_addInk, 4, (Option.some .int), 8, 200, []), as, h0, hF, o)
theorem hc_X2_addInk {D : va_G} {l : Launch} {as : List Value} {h0 hF : AH} {o : Out} : gC (G_X2_addInk D l as h0 hF o) = cX2_addInk := rfl
theorem ho_X2_addInk {D : va_G} {l : Launch} {as : List Value} {h0 hF : AH} {o : Out} : gO (G_X2_addInk D l as h0 hF o) = "BlockPapers$Workshop" := rfl
theorem hp_X2_addInk {D : va_G} {l : Launch} {as : List Value} {h0 hF : AH} {o : Out} (pc : Nat) : ∀ z ∈ tableOf (gHd (G_X2_addInk D l as h0 hF o)), covers z pc = false := hpN
def f_X2_addInk_j57 (x0 : Nat) (x1 : Int32) (x2 : Int32) (x3 : Int32) (s0 : Int32) (h : AH) : Option ((Int32 ⊕ Nat) × AH) :=
  bdX (f_X1_allow s0 (1 : Int32) (12 : Int32) h) (fun zq19 h2 =>
    outX h2 zq19
  ) fun r1 h2 =>
  bd (gtR h2 1 x0 1) fun v4 =>
  bd2 (nwX h2 8 3 fsX9) fun a6 h5 =>
  bd2 (f_X9_init a6 x1 x2 x3 h5) fun r7 h8 =>
  gd (isC h8 16 v4) <|
  bd2 (f_J2_add v4 a6 h8) fun r11 h12 =>
  bd (gtR h12 1 x0 1) fun v14 =>
  gd (isC h12 16 v14) <|
  bd2 (f_J2_size v14 h12) fun r16 h17 =>
  some (.inl (r16 - (1 : Int32)), h17)
theorem w_X2_addInk_j57 (D : va_G) (l : Launch) (hl : l.stackTraces = false) (as : List Value) (h0 : AH) {r : (Int32 ⊕ Nat)} {hF : AH} (x0 : Nat) (x1 : Int32) (x2 : Int32) (x3 : Int32) (s0 : Int32) (h : AH) (e : f_X2_addInk_j57 x0 x1 x2 x3 s0 h = some (r, hF)) : V (G_X2_addInk D l as h0 hF ((oX oI) r)) h 57 [(0, .ref x0), (1, .int x1), (2, .int x2), (3, .int x3)] [.int s0] := by
  unfold f_X2_addInk_j57 at e
  refine v_iconst (pc' := 58) (v := 1) hc_X2_addInk dX2_addInk_57 rfl rfl ?_
  refine v_bipush (pc' := 60) (v := 12) hc_X2_addInk dX2_addInk_58 rfl rfl ?_
  rcases bdX_of e with ⟨r1, h2, e3, e⟩ | ⟨zq19, h2, e3, e⟩
  · refine k_SN (pc' := 63) (x := ⟨"BlockPapers", "allow", "(ZII)V"⟩) (n := 3) hc_X2_addInk ho_X2_addInk (w_X1_allow D l hl s0 (1 : Int32) (12 : Int32) h e3) q1090 q1091 q75 q1092 hy_44 ⟨Nat.le_of_ble_eq_true rfl, Nat.le_of_ble_eq_true rfl⟩ rfl rfl (Nat.le_of_ble_eq_true rfl) dX2_addInk_60 rfl (kU ?_) kN
    refine v_aload_n (pc' := 64) hc_X2_addInk dX2_addInk_63 rfl rfl 0 rfl ?_
    refine v_gfR (pc' := 67) hc_X2_addInk ho_X2_addInk KX2 1 (Nat.le_of_ble_eq_true rfl) q166 (Or.inl rfl) dX2_addInk_64 rfl e (fun v4 _ e => ?_)
    refine v_newX (pc' := 70) hc_X2_addInk ho_X2_addInk KX9 q1187 q1188 q108 rfl dfX9 dX2_addInk_67 rfl e (fun a6 h5 _ e => ?_)
    refine v_dup (pc' := 71) hc_X2_addInk dX2_addInk_70 rfl rfl ?_
    refine v_iload_n (pc' := 72) hc_X2_addInk dX2_addInk_71 rfl rfl 1 rfl ?_
    refine v_iload_n (pc' := 73) hc_X2_addInk dX2_addInk_72 rfl rfl 2 rfl ?_
    refine v_iload_n (pc' := 74) hc_X2_addInk dX2_addInk_73 rfl rfl 3 rfl ?_
    obtain ⟨r7, h8, e9, e⟩ := bd2_of e
    refine k_I (pc' := 77) (n := 3) hc_X2_addInk ho_X2_addInk (w_X9_init D l hl a6 x1 x2 x3 h5 e9) (wA_l q1189) q1190 q108 q1191 rfl hy_53 ⟨Nat.le_of_ble_eq_true rfl, Nat.le_of_ble_eq_true rfl⟩ rfl rfl (Nat.le_of_ble_eq_true rfl) dX2_addInk_74 rfl (kU ?_) kN
    obtain ⟨c10, e⟩ := gd_of e
    obtain ⟨r11, h12, e13, e⟩ := bd2_of e
    refine k_F (pc' := 82) (x := ⟨"java/util/List", "add", "(Ljava/lang/Object;)Z"⟩) (y := ⟨"java/util/ArrayList", "add", "(Ljava/lang/Object;)Z"⟩) (ci := 16) (n := 1) hc_X2_addInk ho_X2_addInk rfl c10 (w_J2_add D l hl v4 a6 h8 e13) (wA_l q904) (by decide +kernel) q907 q909 q79 q911 hy_28 ⟨Nat.le_of_ble_eq_true rfl, Nat.le_of_ble_eq_true rfl⟩ rfl rfl (Nat.le_of_ble_eq_true rfl) dX2_addInk_77 rfl (kS ?_) kN
    refine v_pop (pc' := 83) hc_X2_addInk dX2_addInk_82 rfl rfl ?_
    refine v_aload_n (pc' := 84) hc_X2_addInk dX2_addInk_83 rfl rfl 0 rfl ?_
    refine v_gfR (pc' := 87) hc_X2_addInk ho_X2_addInk KX2 1 (Nat.le_of_ble_eq_true rfl) q166 (Or.inl rfl) dX2_addInk_84 rfl e (fun v14 _ e => ?_)
    obtain ⟨c15, e⟩ := gd_of e
    obtain ⟨r16, h17, e18, e⟩ := bd2_of e
    refine k_F (pc' := 92) (x := ⟨"java/util/List", "size", "()I"⟩) (y := ⟨"java/util/ArrayList", "size", "()I"⟩) (ci := 16) (n := 0) hc_X2_addInk ho_X2_addInk rfl c15 (w_J2_size D l hl v14 h12 e18) (wA_l q513) (by decide +kernel) q348 q350 q79 q352 hy_19 ⟨Nat.le_of_ble_eq_true rfl, Nat.le_of_ble_eq_true rfl⟩ rfl rfl (Nat.le_of_ble_eq_true rfl) dX2_addInk_87 rfl (kS ?_) kN
    refine v_iconst (pc' := 93) (v := 1) hc_X2_addInk dX2_addInk_92 rfl rfl ?_
    refine v_isub (pc' := 94) hc_X2_addInk dX2_addInk_93 rfl ?_
    obtain ⟨rfl, rfl⟩ := ret_of e
    exact v_iret hc_X2_addInk rfl dX2_addInk_94 rfl rfl
  · refine k_SN (pc' := 63) (x := ⟨"BlockPapers", "allow", "(ZII)V"⟩) (n := 3) hc_X2_addInk ho_X2_addInk (w_X1_allow D l hl s0 (1 : Int32) (12 : Int32) h e3) q1090 q1091 q75 q1092 hy_44 ⟨Nat.le_of_ble_eq_true rfl, Nat.le_of_ble_eq_true rfl⟩ rfl rfl (Nat.le_of_ble_eq_true rfl) dX2_addInk_60 rfl kM (kX ?_)
    exact v_outA (hp_X2_addInk _) rfl rfl e
def f_X2_addInk_j35 (x0 : Nat) (x1 : Int32) (x2 : Int32) (x3 : Int32) (s0 : Int32) (h : AH) : Option ((Int32 ⊕ Nat) × AH) :=
  bdX (f_X1_require s0 h) (fun zq9 h2 =>
    outX h2 zq9
  ) fun r1 h2 =>
  bd (gtR h2 1 x0 1) fun v4 =>
  gd (isC h2 16 v4) <|
  bd2 (f_J2_size v4 h2) fun r6 h7 =>
  if (12 : Int32) ≤ r6 then (
    f_X2_addInk_j57 x0 x1 x2 x3 (0 : Int32) h7
  ) else (
    f_X2_addInk_j57 x0 x1 x2 x3 (1 : Int32) h7
  )
theorem w_X2_addInk_j35 (D : va_G) (l : Launch) (hl : l.stackTraces = false) (as : List Value) (h0 : AH) {r : (Int32 ⊕ Nat)} {hF : AH} (x0 : Nat) (x1 : Int32) (x2 : Int32) (x3 : Int32) (s0 : Int32) (h : AH) (e : f_X2_addInk_j35 x0 x1 x2 x3 s0 h = some (r, hF)) : V (G_X2_addInk D l as h0 hF ((oX oI) r)) h 35 [(0, .ref x0), (1, .int x1), (2, .int x2), (3, .int x3)] [.int s0] := by
  unfold f_X2_addInk_j35 at e
  rcases bdX_of e with ⟨r1, h2, e3, e⟩ | ⟨zq9, h2, e3, e⟩
  · refine k_SN (pc' := 38) (x := ⟨"BlockPapers", "require", "(Z)V"⟩) (n := 1) hc_X2_addInk ho_X2_addInk (w_X1_require D l hl s0 h e3) q1089 q270 q75 q271 hy_40 ⟨Nat.le_of_ble_eq_true rfl, Nat.le_of_ble_eq_true rfl⟩ rfl rfl (Nat.le_of_ble_eq_true rfl) dX2_addInk_35 rfl (kU ?_) kN
    refine v_aload_n (pc' := 39) hc_X2_addInk dX2_addInk_38 rfl rfl 0 rfl ?_
    refine v_gfR (pc' := 42) hc_X2_addInk ho_X2_addInk KX2 1 (Nat.le_of_ble_eq_true rfl) q166 (Or.inl rfl) dX2_addInk_39 rfl e (fun v4 _ e => ?_)
    obtain ⟨c5, e⟩ := gd_of e
    obtain ⟨r6, h7, e8, e⟩ := bd2_of e
    refine k_F (pc' := 47) (x := ⟨"java/util/List", "size", "()I"⟩) (y := ⟨"java/util/ArrayList", "size", "()I"⟩) (ci := 16) (n := 0) hc_X2_addInk ho_X2_addInk rfl c5 (w_J2_size D l hl v4 h2 e8) (wA_l q513) (by decide +kernel) q348 q350 q79 q352 hy_19 ⟨Nat.le_of_ble_eq_true rfl, Nat.le_of_ble_eq_true rfl⟩ rfl rfl (Nat.le_of_ble_eq_true rfl) dX2_addInk_42 rfl (kS ?_) kN
    refine v_bipush (pc' := 49) (v := 12) hc_X2_addInk dX2_addInk_47 rfl rfl ?_
    refine v_icmp_ge (pt := 56) (pf := 52) hc_X2_addInk dX2_addInk_49 rfl rfl e (fun _ e => ?_) (fun _ e => ?_)
    · refine v_iconst (pc' := 57) (v := 0) hc_X2_addInk dX2_addInk_56 rfl rfl ?_
      exact w_X2_addInk_j57 D l hl as h0 x0 x1 x2 x3 (0 : Int32) h7 e
    · refine v_iconst (pc' := 53) (v := 1) hc_X2_addInk dX2_addInk_52 rfl rfl ?_
      refine v_goto (pt := 57) hc_X2_addInk dX2_addInk_53 rfl ?_
      exact w_X2_addInk_j57 D l hl as h0 x0 x1 x2 x3 (1 : Int32) h7 e
  · refine k_SN (pc' := 38) (x := ⟨"BlockPapers", "require", "(Z)V"⟩) (n := 1) hc_X2_addInk ho_X2_addInk (w_X1_require D l hl s0 h e3) q1089 q270 q75 q271 hy_40 ⟨Nat.le_of_ble_eq_true rfl, Nat.le_of_ble_eq_true rfl⟩ rfl rfl (Nat.le_of_ble_eq_true rfl) dX2_addInk_35 rfl kM (kX ?_)
    exact v_outA (hp_X2_addInk _) rfl rfl e
def f_X2_addInk (x0 : Nat) (x1 : Int32) (x2 : Int32) (x3 : Int32) (h : AH) : Option ((Int32 ⊕ Nat) × AH) :=
  bd2 (f_X1_inRange x1 (0 : Int32) (5 : Int32) h) fun r1 h2 =>
  if r1 = 0 then (
    f_X2_addInk_j35 x0 x1 x2 x3 (0 : Int32) h2
  ) else (
    bd2 (f_X1_inRange x2 (0 : Int32) (9 : Int32) h2) fun r4 h5 =>
    if r4 = 0 then (
      f_X2_addInk_j35 x0 x1 x2 x3 (0 : Int32) h5
    ) else (
      bd2 (f_X1_inRange x3 (1 : Int32) (999 : Int32) h5) fun r7 h8 =>
      if r7 = 0 then (
        f_X2_addInk_j35 x0 x1 x2 x3 (0 : Int32) h8
      ) else (
        f_X2_addInk_j35 x0 x1 x2 x3 (1 : Int32) h8
      )
    )
  )
theorem v_X2_addInk (D : va_G) (l : Launch) (hl : l.stackTraces = false) (as : List Value) (h0 : AH) {r : (Int32 ⊕ Nat)} {hF : AH} (x0 : Nat) (x1 : Int32) (x2 : Int32) (x3 : Int32) (h : AH) (e : f_X2_addInk x0 x1 x2 x3 h = some (r, hF)) : V (G_X2_addInk D l as h0 hF ((oX oI) r)) h 0 [(0, .ref x0), (1, .int x1), (2, .int x2), (3, .int x3)] [] := by
  unfold f_X2_addInk at e
  refine v_iload_n (pc' := 1) hc_X2_addInk dX2_addInk_0 rfl rfl 1 rfl ?_
  refine v_iconst (pc' := 2) (v := 0) hc_X2_addInk dX2_addInk_1 rfl rfl ?_
  refine v_iconst (pc' := 3) (v := 5) hc_X2_addInk dX2_addInk_2 rfl rfl ?_
  obtain ⟨r1, h2, e3, e⟩ := bd2_of e
  refine k_SN (pc' := 6) (x := ⟨"BlockPapers", "inRange", "(III)Z"⟩) (n := 3) hc_X2_addInk ho_X2_addInk (w_X1_inRange D l hl x1 (0 : Int32) (5 : Int32) h e3) q1088 q267 q75 q268 hy_39 ⟨Nat.le_of_ble_eq_true rfl, Nat.le_of_ble_eq_true rfl⟩ rfl rfl (Nat.le_of_ble_eq_true rfl) dX2_addInk_3 rfl (kS ?_) kN
  refine v_if_eq (pt := 34) (pf := 9) hc_X2_addInk dX2_addInk_6 rfl rfl e (fun _ e => ?_) (fun _ e => ?_)
  · refine v_iconst (pc' := 35) (v := 0) hc_X2_addInk dX2_addInk_34 rfl rfl ?_
    exact w_X2_addInk_j35 D l hl as h0 x0 x1 x2 x3 (0 : Int32) h2 e
  · refine v_iload_n (pc' := 10) hc_X2_addInk dX2_addInk_9 rfl rfl 2 rfl ?_
    refine v_iconst (pc' := 11) (v := 0) hc_X2_addInk dX2_addInk_10 rfl rfl ?_
    refine v_bipush (pc' := 13) (v := 9) hc_X2_addInk dX2_addInk_11 rfl rfl ?_
    obtain ⟨r4, h5, e6, e⟩ := bd2_of e
    refine k_SN (pc' := 16) (x := ⟨"BlockPapers", "inRange", "(III)Z"⟩) (n := 3) hc_X2_addInk ho_X2_addInk (w_X1_inRange D l hl x2 (0 : Int32) (9 : Int32) h2 e6) q1088 q267 q75 q268 hy_39 ⟨Nat.le_of_ble_eq_true rfl, Nat.le_of_ble_eq_true rfl⟩ rfl rfl (Nat.le_of_ble_eq_true rfl) dX2_addInk_13 rfl (kS ?_) kN
    refine v_if_eq (pt := 34) (pf := 19) hc_X2_addInk dX2_addInk_16 rfl rfl e (fun _ e => ?_) (fun _ e => ?_)
    · refine v_iconst (pc' := 35) (v := 0) hc_X2_addInk dX2_addInk_34 rfl rfl ?_
      exact w_X2_addInk_j35 D l hl as h0 x0 x1 x2 x3 (0 : Int32) h5 e
    · refine v_iload_n (pc' := 20) hc_X2_addInk dX2_addInk_19 rfl rfl 3 rfl ?_
      refine v_iconst (pc' := 21) (v := 1) hc_X2_addInk dX2_addInk_20 rfl rfl ?_
      refine v_sipush (pc' := 24) (v := 999) hc_X2_addInk dX2_addInk_21 rfl rfl ?_
      obtain ⟨r7, h8, e9, e⟩ := bd2_of e
      refine k_SN (pc' := 27) (x := ⟨"BlockPapers", "inRange", "(III)Z"⟩) (n := 3) hc_X2_addInk ho_X2_addInk (w_X1_inRange D l hl x3 (1 : Int32) (999 : Int32) h5 e9) q1088 q267 q75 q268 hy_39 ⟨Nat.le_of_ble_eq_true rfl, Nat.le_of_ble_eq_true rfl⟩ rfl rfl (Nat.le_of_ble_eq_true rfl) dX2_addInk_24 rfl (kS ?_) kN
      refine v_if_eq (pt := 34) (pf := 30) hc_X2_addInk dX2_addInk_27 rfl rfl e (fun _ e => ?_) (fun _ e => ?_)
      · refine v_iconst (pc' := 35) (v := 0) hc_X2_addInk dX2_addInk_34 rfl rfl ?_
        exact w_X2_addInk_j35 D l hl as h0 x0 x1 x2 x3 (0 : Int32) h8 e
      · refine v_iconst (pc' := 31) (v := 1) hc_X2_addInk dX2_addInk_30 rfl rfl ?_
        refine v_goto (pt := 35) hc_X2_addInk dX2_addInk_31 rfl ?_
        exact w_X2_addInk_j35 D l hl as h0 x0 x1 x2 x3 (1 : Int32) h8 e
theorem w_X2_addInk (D : va_G) (l : Launch) (hl : l.stackTraces = false) (x0 : Nat) (x1 : Int32) (x2 : Int32) (x3 : Int32) (h : AH) {r : (Int32 ⊕ Nat)} {hF : AH} (e : f_X2_addInk x0 x1 x2 x3 h = some (r, hF)) : MetV D l yX2_addInk (Cond.code yX2_addInk cX2_addInk 4 (Option.some .int)) 8 200 [.ref x0, .int x1, .int x2, .int x3] h hF ((oX oI) r) :=
  met_ofF (by decide +kernel) hl (Nat.le_of_ble_eq_true rfl) rfl (v_X2_addInk D l hl [.ref x0, .int x1, .int x2, .int x3] h x0 x1 x2 x3 h e)
/-! BlockPapers$Workshop.ink(I)LBlockPapers$Ink;  -/
abbrev G_X2_ink (D : va_G) (l : Launch) (as : List Value) (h0 hF : AH) (o : Out) : CT := (D, l, (yX2_ink.cls, yX2_ink, cX2_ink, 2, (Option.some (.object "BlockPapers$Ink")), 7, 112, []), as, h0, hF, o)
theorem hc_X2_ink {D : va_G} {l : Launch} {as : List Value} {h0 hF : AH} {o : Out} : gC (G_X2_ink D l as h0 hF o) = cX2_ink := rfl
theorem ho_X2_ink {D : va_G} {l : Launch} {as : List Value} {h0 hF : AH} {o : Out} : gO (G_X2_ink D l as h0 hF o) = "BlockPapers$Workshop" := rfl
theorem hp_X2_ink {D : va_G} {l : Launch} {as : List Value} {h0 hF : AH} {o : Out} (pc : Nat) : ∀ z ∈ tableOf (gHd (G_X2_ink D l as h0 hF o)), covers z pc = false := hpN
def f_X2_ink (x0 : Nat) (x1 : Int32) (h : AH) : Option ((Nat ⊕ Nat) × AH) :=
  bd (gtR h 1 x0 1) fun v1 =>
  gd (isC h 16 v1) <|
  bd2 (f_J2_size v1 h) fun r3 h4 =>
  bd2 (f_X1_inRange x1 (0 : Int32) (r3 - (1 : Int32)) h4) fun r6 h7 =>
  bdX (f_X1_requireIndex r6 h7) (fun zq18 h10 =>
    outX h10 zq18
  ) fun r9 h10 =>
  bd (gtR h10 1 x0 1) fun v12 =>
  gd (isC h10 16 v12) <|
  bd2 (f_J2_get v12 x1 h10) fun r14 h15 =>
  gd (isC h15 8 r14) <|
  some (.inl r14, h15)
theorem v_X2_ink (D : va_G) (l : Launch) (hl : l.stackTraces = false) (as : List Value) (h0 : AH) {r : (Nat ⊕ Nat)} {hF : AH} (x0 : Nat) (x1 : Int32) (h : AH) (e : f_X2_ink x0 x1 h = some (r, hF)) : V (G_X2_ink D l as h0 hF ((oX oR) r)) h 0 [(0, .ref x0), (1, .int x1)] [] := by
  unfold f_X2_ink at e
  refine v_iload_n (pc' := 1) hc_X2_ink dX2_ink_0 rfl rfl 1 rfl ?_
  refine v_iconst (pc' := 2) (v := 0) hc_X2_ink dX2_ink_1 rfl rfl ?_
  refine v_aload_n (pc' := 3) hc_X2_ink dX2_ink_2 rfl rfl 0 rfl ?_
  refine v_gfR (pc' := 6) hc_X2_ink ho_X2_ink KX2 1 (Nat.le_of_ble_eq_true rfl) q166 (Or.inl rfl) dX2_ink_3 rfl e (fun v1 _ e => ?_)
  obtain ⟨c2, e⟩ := gd_of e
  obtain ⟨r3, h4, e5, e⟩ := bd2_of e
  refine k_F (pc' := 11) (x := ⟨"java/util/List", "size", "()I"⟩) (y := ⟨"java/util/ArrayList", "size", "()I"⟩) (ci := 16) (n := 0) hc_X2_ink ho_X2_ink rfl c2 (w_J2_size D l hl v1 h e5) (wA_l q513) (by decide +kernel) q348 q350 q79 q352 hy_19 ⟨Nat.le_of_ble_eq_true rfl, Nat.le_of_ble_eq_true rfl⟩ rfl rfl (Nat.le_of_ble_eq_true rfl) dX2_ink_6 rfl (kS ?_) kN
  refine v_iconst (pc' := 12) (v := 1) hc_X2_ink dX2_ink_11 rfl rfl ?_
  refine v_isub (pc' := 13) hc_X2_ink dX2_ink_12 rfl ?_
  obtain ⟨r6, h7, e8, e⟩ := bd2_of e
  refine k_SN (pc' := 16) (x := ⟨"BlockPapers", "inRange", "(III)Z"⟩) (n := 3) hc_X2_ink ho_X2_ink (w_X1_inRange D l hl x1 (0 : Int32) (r3 - (1 : Int32)) h4 e8) q1088 q267 q75 q268 hy_39 ⟨Nat.le_of_ble_eq_true rfl, Nat.le_of_ble_eq_true rfl⟩ rfl rfl (Nat.le_of_ble_eq_true rfl) dX2_ink_13 rfl (kS ?_) kN
  rcases bdX_of e with ⟨r9, h10, e11, e⟩ | ⟨zq18, h10, e11, e⟩
  · refine k_SN (pc' := 19) (x := ⟨"BlockPapers", "requireIndex", "(Z)V"⟩) (n := 1) hc_X2_ink ho_X2_ink (w_X1_requireIndex D l hl r6 h7 e11) q1151 q1152 q75 q1153 hy_48 ⟨Nat.le_of_ble_eq_true rfl, Nat.le_of_ble_eq_true rfl⟩ rfl rfl (Nat.le_of_ble_eq_true rfl) dX2_ink_16 rfl (kU ?_) kN
    refine v_aload_n (pc' := 20) hc_X2_ink dX2_ink_19 rfl rfl 0 rfl ?_
    refine v_gfR (pc' := 23) hc_X2_ink ho_X2_ink KX2 1 (Nat.le_of_ble_eq_true rfl) q166 (Or.inl rfl) dX2_ink_20 rfl e (fun v12 _ e => ?_)
    refine v_iload_n (pc' := 24) hc_X2_ink dX2_ink_23 rfl rfl 1 rfl ?_
    obtain ⟨c13, e⟩ := gd_of e
    obtain ⟨r14, h15, e16, e⟩ := bd2_of e
    refine k_F (pc' := 29) (x := ⟨"java/util/List", "get", "(I)Ljava/lang/Object;"⟩) (y := ⟨"java/util/ArrayList", "get", "(I)Ljava/lang/Object;"⟩) (ci := 16) (n := 1) hc_X2_ink ho_X2_ink rfl c13 (w_J2_get D l hl v12 x1 h10 e16) (wA_l q515) (by decide +kernel) q401 q403 q79 q405 hy_23 ⟨Nat.le_of_ble_eq_true rfl, Nat.le_of_ble_eq_true rfl⟩ rfl rfl (Nat.le_of_ble_eq_true rfl) dX2_ink_24 rfl (kS ?_) kN
    obtain ⟨c17, e⟩ := gd_of e
    refine v_cast (pc' := 32) (ci := 8) hc_X2_ink ho_X2_ink rfl q1187 (Or.inl rfl) dX2_ink_29 rfl c17 ?_
    obtain ⟨rfl, rfl⟩ := ret_of e
    exact v_aret hc_X2_ink rfl (Or.inl ⟨_, rfl⟩) (Or.inr ⟨_, rfl⟩) dX2_ink_32 rfl rfl
  · refine k_SN (pc' := 19) (x := ⟨"BlockPapers", "requireIndex", "(Z)V"⟩) (n := 1) hc_X2_ink ho_X2_ink (w_X1_requireIndex D l hl r6 h7 e11) q1151 q1152 q75 q1153 hy_48 ⟨Nat.le_of_ble_eq_true rfl, Nat.le_of_ble_eq_true rfl⟩ rfl rfl (Nat.le_of_ble_eq_true rfl) dX2_ink_16 rfl kM (kX ?_)
    exact v_outA (hp_X2_ink _) rfl rfl e
theorem w_X2_ink (D : va_G) (l : Launch) (hl : l.stackTraces = false) (x0 : Nat) (x1 : Int32) (h : AH) {r : (Nat ⊕ Nat)} {hF : AH} (e : f_X2_ink x0 x1 h = some (r, hF)) : MetV D l yX2_ink (Cond.code yX2_ink cX2_ink 2 (Option.some (.object "BlockPapers$Ink"))) 7 112 [.ref x0, .int x1] h hF ((oX oR) r) :=
  met_ofF (by decide +kernel) hl (Nat.le_of_ble_eq_true rfl) rfl (v_X2_ink D l hl [.ref x0, .int x1] h x0 x1 h e)
/-! BlockPapers$Ink.less(I)LBlockPapers$Ink;  -/
abbrev G_X9_less (D : va_G) (l : Launch) (as : List Value) (h0 hF : AH) (o : Out) : CT := (D, l, (yX9_less.cls, yX9_less, cX9_less, 2, (Option.some (.object "BlockPapers$Ink")), 2, 71, []), as, h0, hF, o)
theorem hc_X9_less {D : va_G} {l : Launch} {as : List Value} {h0 hF : AH} {o : Out} : gC (G_X9_less D l as h0 hF o) = cX9_less := rfl
theorem ho_X9_less {D : va_G} {l : Launch} {as : List Value} {h0 hF : AH} {o : Out} : gO (G_X9_less D l as h0 hF o) = "BlockPapers$Ink" := rfl
theorem hp_X9_less {D : va_G} {l : Launch} {as : List Value} {h0 hF : AH} {o : Out} (pc : Nat) : ∀ z ∈ tableOf (gHd (G_X9_less D l as h0 hF o)), covers z pc = false := hpN
def f_X9_less (x0 : Nat) (x1 : Int32) (h : AH) : Option (Nat × AH) :=
  bd2 (nwX h 8 3 fsX9) fun a2 h1 =>
  bd (gtI h1 8 x0 0) fun v3 =>
  bd (gtI h1 8 x0 1) fun v4 =>
  bd (gtI h1 8 x0 2) fun v5 =>
  bd2 (f_X9_init a2 v3 v4 (v5 - x1) h1) fun r6 h7 =>
  some (a2, h7)
theorem v_X9_less (D : va_G) (l : Launch) (hl : l.stackTraces = false) (as : List Value) (h0 : AH) {r : Nat} {hF : AH} (x0 : Nat) (x1 : Int32) (h : AH) (e : f_X9_less x0 x1 h = some (r, hF)) : V (G_X9_less D l as h0 hF (oR r)) h 0 [(0, .ref x0), (1, .int x1)] [] := by
  unfold f_X9_less at e
  refine v_newX (pc' := 3) hc_X9_less ho_X9_less KX9 q1221 q1188 q108 rfl dfX9 dX9_less_0 rfl e (fun a2 h1 _ e => ?_)
  refine v_dup (pc' := 4) hc_X9_less dX9_less_3 rfl rfl ?_
  refine v_aload_n (pc' := 5) hc_X9_less dX9_less_4 rfl rfl 0 rfl ?_
  refine v_gfI (pc' := 8) hc_X9_less ho_X9_less KX9 0 (Nat.le_of_ble_eq_true rfl) q1193 (Or.inl rfl) dX9_less_5 rfl e (fun v3 _ e => ?_)
  refine v_aload_n (pc' := 9) hc_X9_less dX9_less_8 rfl rfl 0 rfl ?_
  refine v_gfI (pc' := 12) hc_X9_less ho_X9_less KX9 1 (Nat.le_of_ble_eq_true rfl) q1196 (Or.inl rfl) dX9_less_9 rfl e (fun v4 _ e => ?_)
  refine v_aload_n (pc' := 13) hc_X9_less dX9_less_12 rfl rfl 0 rfl ?_
  refine v_gfI (pc' := 16) hc_X9_less ho_X9_less KX9 2 (Nat.le_of_ble_eq_true rfl) q1199 (Or.inl rfl) dX9_less_13 rfl e (fun v5 _ e => ?_)
  refine v_iload_n (pc' := 17) hc_X9_less dX9_less_16 rfl rfl 1 rfl ?_
  refine v_isub (pc' := 18) hc_X9_less dX9_less_17 rfl ?_
  obtain ⟨r6, h7, e8, e⟩ := bd2_of e
  refine k_I (pc' := 21) (n := 3) hc_X9_less ho_X9_less (w_X9_init D l hl a2 v3 v4 (v5 - x1) h1 e8) (wA_l q1222) q1190 q108 q1191 rfl hy_53 ⟨Nat.le_of_ble_eq_true rfl, Nat.le_of_ble_eq_true rfl⟩ rfl rfl (Nat.le_of_ble_eq_true rfl) dX9_less_18 rfl (kU ?_) kN
  obtain ⟨rfl, rfl⟩ := ret_of e
  exact v_aret hc_X9_less rfl (Or.inl ⟨_, rfl⟩) (Or.inr ⟨_, rfl⟩) dX9_less_21 rfl rfl
theorem w_X9_less (D : va_G) (l : Launch) (hl : l.stackTraces = false) (x0 : Nat) (x1 : Int32) (h : AH) {r : Nat} {hF : AH} (e : f_X9_less x0 x1 h = some (r, hF)) : MetV D l yX9_less (Cond.code yX9_less cX9_less 2 (Option.some (.object "BlockPapers$Ink"))) 2 71 [.ref x0, .int x1] h hF (oR r) :=
  met_ofF (by decide +kernel) hl (Nat.le_of_ble_eq_true rfl) rfl (v_X9_less D l hl [.ref x0, .int x1] h x0 x1 h e)
/-! BlockPapers$Ink.mixed(II)LBlockPapers$Ink;  -/
abbrev G_X9_mixed (D : va_G) (l : Launch) (as : List Value) (h0 hF : AH) (o : Out) : CT := (D, l, (yX9_mixed.cls, yX9_mixed, cX9_mixed, 4, (Option.some (.object "BlockPapers$Ink")), 2, 71, []), as, h0, hF, o)
theorem hc_X9_mixed {D : va_G} {l : Launch} {as : List Value} {h0 hF : AH} {o : Out} : gC (G_X9_mixed D l as h0 hF o) = cX9_mixed := rfl
theorem ho_X9_mixed {D : va_G} {l : Launch} {as : List Value} {h0 hF : AH} {o : Out} : gO (G_X9_mixed D l as h0 hF o) = "BlockPapers$Ink" := rfl
theorem hp_X9_mixed {D : va_G} {l : Launch} {as : List Value} {h0 hF : AH} {o : Out} (pc : Nat) : ∀ z ∈ tableOf (gHd (G_X9_mixed D l as h0 hF o)), covers z pc = false := hpN
def f_X9_mixed (x0 : Nat) (x1 : Int32) (x2 : Int32) (h : AH) : Option (Nat × AH) :=
  bd (gtI h 8 x0 2) fun v1 =>
  bd2 (nwX h 8 3 fsX9) fun a3 h2 =>
  bd (gtI h2 8 x0 0) fun v4 =>
  bd (gtI h2 8 x0 1) fun v5 =>
  bd (gtI h2 8 x0 2) fun v6 =>
  gd (decide (¬ (v1 + x2) = 0)) <|
  bd2 (f_J15_min (999 : Int32) (v1 + x2) h2) fun r8 h9 =>
  bd2 (f_X9_init a3 v4 (((v5 * v6) + (x1 * x2)) / (v1 + x2)) r8 h9) fun r11 h12 =>
  some (a3, h12)
theorem v_X9_mixed (D : va_G) (l : Launch) (hl : l.stackTraces = false) (as : List Value) (h0 : AH) {r : Nat} {hF : AH} (x0 : Nat) (x1 : Int32) (x2 : Int32) (h : AH) (e : f_X9_mixed x0 x1 x2 h = some (r, hF)) : V (G_X9_mixed D l as h0 hF (oR r)) h 0 [(0, .ref x0), (1, .int x1), (2, .int x2)] [] := by
  unfold f_X9_mixed at e
  refine v_aload_n (pc' := 1) hc_X9_mixed dX9_mixed_0 rfl rfl 0 rfl ?_
  refine v_gfI (pc' := 4) hc_X9_mixed ho_X9_mixed KX9 2 (Nat.le_of_ble_eq_true rfl) q1199 (Or.inl rfl) dX9_mixed_1 rfl e (fun v1 _ e => ?_)
  refine v_iload_n (pc' := 5) hc_X9_mixed dX9_mixed_4 rfl rfl 2 rfl ?_
  refine v_iadd (pc' := 6) hc_X9_mixed dX9_mixed_5 rfl ?_
  refine v_istore_n (pc' := 7) (lv' := [(3, .int (v1 + x2)), (0, .ref x0), (1, .int x1), (2, .int x2)]) hc_X9_mixed dX9_mixed_6 rfl rfl (Nat.le_of_ble_eq_true rfl) rfl ?_
  refine v_newX (pc' := 10) hc_X9_mixed ho_X9_mixed KX9 q1221 q1188 q108 rfl dfX9 dX9_mixed_7 rfl e (fun a3 h2 _ e => ?_)
  refine v_dup (pc' := 11) hc_X9_mixed dX9_mixed_10 rfl rfl ?_
  refine v_aload_n (pc' := 12) hc_X9_mixed dX9_mixed_11 rfl rfl 1 rfl ?_
  refine v_gfI (pc' := 15) hc_X9_mixed ho_X9_mixed KX9 0 (Nat.le_of_ble_eq_true rfl) q1193 (Or.inl rfl) dX9_mixed_12 rfl e (fun v4 _ e => ?_)
  refine v_aload_n (pc' := 16) hc_X9_mixed dX9_mixed_15 rfl rfl 1 rfl ?_
  refine v_gfI (pc' := 19) hc_X9_mixed ho_X9_mixed KX9 1 (Nat.le_of_ble_eq_true rfl) q1196 (Or.inl rfl) dX9_mixed_16 rfl e (fun v5 _ e => ?_)
  refine v_aload_n (pc' := 20) hc_X9_mixed dX9_mixed_19 rfl rfl 1 rfl ?_
  refine v_gfI (pc' := 23) hc_X9_mixed ho_X9_mixed KX9 2 (Nat.le_of_ble_eq_true rfl) q1199 (Or.inl rfl) dX9_mixed_20 rfl e (fun v6 _ e => ?_)
  refine v_imul (pc' := 24) hc_X9_mixed dX9_mixed_23 rfl ?_
  refine v_iload_n (pc' := 25) hc_X9_mixed dX9_mixed_24 rfl rfl 2 rfl ?_
  refine v_iload_n (pc' := 26) hc_X9_mixed dX9_mixed_25 rfl rfl 3 rfl ?_
  refine v_imul (pc' := 27) hc_X9_mixed dX9_mixed_26 rfl ?_
  refine v_iadd (pc' := 28) hc_X9_mixed dX9_mixed_27 rfl ?_
  refine v_iload_n (pc' := 29) hc_X9_mixed dX9_mixed_28 rfl rfl 0 rfl ?_
  obtain ⟨c7, e⟩ := gd_of e
  refine v_idiv (pc' := 30) hc_X9_mixed dX9_mixed_29 rfl (of_decide_eq_true c7) ?_
  refine v_sipush (pc' := 33) (v := 999) hc_X9_mixed dX9_mixed_30 rfl rfl ?_
  refine v_iload_n (pc' := 34) hc_X9_mixed dX9_mixed_33 rfl rfl 0 rfl ?_
  obtain ⟨r8, h9, e10, e⟩ := bd2_of e
  refine k_S (pc' := 37) (n := 2) hc_X9_mixed ho_X9_mixed (w_J15_min D l hl (999 : Int32) (v1 + x2) h2 e10) (wA_l q1227) q633 q95 q634 hy_11 ⟨Nat.le_of_ble_eq_true rfl, Nat.le_of_ble_eq_true rfl⟩ rfl rfl (Nat.le_of_ble_eq_true rfl) dX9_mixed_34 rfl (kS ?_) kN
  obtain ⟨r11, h12, e13, e⟩ := bd2_of e
  refine k_I (pc' := 40) (n := 3) hc_X9_mixed ho_X9_mixed (w_X9_init D l hl a3 v4 (((v5 * v6) + (x1 * x2)) / (v1 + x2)) r8 h9 e13) (wA_l q1222) q1190 q108 q1191 rfl hy_53 ⟨Nat.le_of_ble_eq_true rfl, Nat.le_of_ble_eq_true rfl⟩ rfl rfl (Nat.le_of_ble_eq_true rfl) dX9_mixed_37 rfl (kU ?_) kN
  obtain ⟨rfl, rfl⟩ := ret_of e
  exact v_aret hc_X9_mixed rfl (Or.inl ⟨_, rfl⟩) (Or.inr ⟨_, rfl⟩) dX9_mixed_40 rfl rfl
theorem w_X9_mixed (D : va_G) (l : Launch) (hl : l.stackTraces = false) (x0 : Nat) (x1 : Int32) (x2 : Int32) (h : AH) {r : Nat} {hF : AH} (e : f_X9_mixed x0 x1 x2 h = some (r, hF)) : MetV D l yX9_mixed (Cond.code yX9_mixed cX9_mixed 4 (Option.some (.object "BlockPapers$Ink"))) 2 71 [.ref x0, .int x1, .int x2] h hF (oR r) :=
  met_ofF (by decide +kernel) hl (Nat.le_of_ble_eq_true rfl) rfl (v_X9_mixed D l hl [.ref x0, .int x1, .int x2] h x0 x1 x2 h e)
/-! BlockPapers$Workshop.mix(III)I  -/
abbrev G_X2_mix (D : va_G) (l : Launch) (as : List Value) (h0 hF : AH) (o : Out) : CT := (D, l, (yX2_mix.cls, yX2_mix, cX2_mix, 9, (Option.some .int), 8, 140, []), as, h0, hF, o)
theorem hc_X2_mix {D : va_G} {l : Launch} {as : List Value} {h0 hF : AH} {o : Out} : gC (G_X2_mix D l as h0 hF o) = cX2_mix := rfl
theorem ho_X2_mix {D : va_G} {l : Launch} {as : List Value} {h0 hF : AH} {o : Out} : gO (G_X2_mix D l as h0 hF o) = "BlockPapers$Workshop" := rfl
theorem hp_X2_mix {D : va_G} {l : Launch} {as : List Value} {h0 hF : AH} {o : Out} (pc : Nat) : ∀ z ∈ tableOf (gHd (G_X2_mix D l as h0 hF o)), covers z pc = false := hpN
def f_X2_mix_j80 (x0 : Nat) (x1 : Int32) (x2 : Int32) (x3 : Int32) (x4 : Nat) (x5 : Nat) (s0 : Int32) (h : AH) : Option ((Int32 ⊕ Nat) × AH) :=
  bd (gtI h 8 x4 2) fun v1 =>
  bdX (f_X1_allow s0 (3 : Int32) v1 h) (fun zq27 h3 =>
    outX h3 zq27
  ) fun r2 h3 =>
  bd (gtR h3 1 x0 1) fun v5 =>
  gd (isC h3 8 x4) <|
  bd2 (f_X9_less x4 x3 h3) fun r7 h8 =>
  gd (isC h8 16 v5) <|
  bd2 (f_J2_set v5 x1 r7 h8) fun r11 h12 =>
  gd (isC h12 8 r11) <|
  bd (gtI h12 8 x4 1) fun v15 =>
  gd (isC h12 8 x5) <|
  bd2 (f_X9_mixed x5 v15 x3 h12) fun r17 h18 =>
  bd (gtR h18 1 x0 1) fun v20 =>
  gd (isC h18 16 v20) <|
  bd2 (f_J2_set v20 x2 r17 h18) fun r22 h23 =>
  gd (isC h23 8 r22) <|
  bd (gtI h23 8 r17 1) fun v26 =>
  some (.inl v26, h23)
theorem w_X2_mix_j80 (D : va_G) (l : Launch) (hl : l.stackTraces = false) (as : List Value) (h0 : AH) {r : (Int32 ⊕ Nat)} {hF : AH} (x0 : Nat) (x1 : Int32) (x2 : Int32) (x3 : Int32) (x4 : Nat) (x5 : Nat) (s0 : Int32) (h : AH) (e : f_X2_mix_j80 x0 x1 x2 x3 x4 x5 s0 h = some (r, hF)) : V (G_X2_mix D l as h0 hF ((oX oI) r)) h 80 [(0, .ref x0), (1, .int x1), (2, .int x2), (3, .int x3), (4, .ref x4), (5, .ref x5)] [.int s0] := by
  unfold f_X2_mix_j80 at e
  refine v_iconst (pc' := 81) (v := 3) hc_X2_mix dX2_mix_80 rfl rfl ?_
  refine v_aload (pc' := 83) hc_X2_mix dX2_mix_81 rfl 4 rfl ?_
  refine v_gnI (pc' := 86) hc_X2_mix ho_X2_mix KX9 2 (Nat.le_of_ble_eq_true rfl) q1200 rfl dX2_mix_83 rfl e (fun v1 _ e => ?_)
  rcases bdX_of e with ⟨r2, h3, e4, e⟩ | ⟨zq27, h3, e4, e⟩
  · refine k_SN (pc' := 89) (x := ⟨"BlockPapers", "allow", "(ZII)V"⟩) (n := 3) hc_X2_mix ho_X2_mix (w_X1_allow D l hl s0 (3 : Int32) v1 h e4) q1090 q1091 q75 q1092 hy_44 ⟨Nat.le_of_ble_eq_true rfl, Nat.le_of_ble_eq_true rfl⟩ rfl rfl (Nat.le_of_ble_eq_true rfl) dX2_mix_86 rfl (kU ?_) kN
    refine v_aload_n (pc' := 90) hc_X2_mix dX2_mix_89 rfl rfl 0 rfl ?_
    refine v_gfR (pc' := 93) hc_X2_mix ho_X2_mix KX2 1 (Nat.le_of_ble_eq_true rfl) q166 (Or.inl rfl) dX2_mix_90 rfl e (fun v5 _ e => ?_)
    refine v_iload_n (pc' := 94) hc_X2_mix dX2_mix_93 rfl rfl 1 rfl ?_
    refine v_aload (pc' := 96) hc_X2_mix dX2_mix_94 rfl 4 rfl ?_
    refine v_iload_n (pc' := 97) hc_X2_mix dX2_mix_96 rfl rfl 3 rfl ?_
    obtain ⟨c6, e⟩ := gd_of e
    obtain ⟨r7, h8, e9, e⟩ := bd2_of e
    refine k_V (pc' := 100) (ci := 8) (n := 1) hc_X2_mix ho_X2_mix rfl c6 (w_X9_less D l hl x4 x3 h3 e9) (wA_l q1217) q1218 (wA_l q1219) q108 q1220 hy_56 ⟨Nat.le_of_ble_eq_true rfl, Nat.le_of_ble_eq_true rfl⟩ rfl rfl (Nat.le_of_ble_eq_true rfl) dX2_mix_97 rfl (kS ?_) kN
    obtain ⟨c10, e⟩ := gd_of e
    obtain ⟨r11, h12, e13, e⟩ := bd2_of e
    refine k_F (pc' := 105) (x := ⟨"java/util/List", "set", "(ILjava/lang/Object;)Ljava/lang/Object;"⟩) (y := ⟨"java/util/ArrayList", "set", "(ILjava/lang/Object;)Ljava/lang/Object;"⟩) (ci := 16) (n := 2) hc_X2_mix ho_X2_mix rfl c10 (w_J2_set D l hl v5 x1 r7 h8 e13) (wA_l q1175) (by decide +kernel) q1178 q1180 q79 q1182 hy_51 ⟨Nat.le_of_ble_eq_true rfl, Nat.le_of_ble_eq_true rfl⟩ rfl rfl (Nat.le_of_ble_eq_true rfl) dX2_mix_100 rfl (kS ?_) kN
    obtain ⟨c14, e⟩ := gd_of e
    refine v_cast (pc' := 108) (ci := 8) hc_X2_mix ho_X2_mix rfl q1187 (Or.inl rfl) dX2_mix_105 rfl c14 ?_
    refine v_astore (pc' := 110) (lv' := [(6, .ref r11), (0, .ref x0), (1, .int x1), (2, .int x2), (3, .int x3), (4, .ref x4), (5, .ref x5)]) hc_X2_mix dX2_mix_108 rfl (Nat.le_of_ble_eq_true rfl) rfl ?_
    refine v_aload (pc' := 112) hc_X2_mix dX2_mix_110 rfl 6 rfl ?_
    refine v_aload (pc' := 114) hc_X2_mix dX2_mix_112 rfl 5 rfl ?_
    refine v_gnI (pc' := 117) hc_X2_mix ho_X2_mix KX9 1 (Nat.le_of_ble_eq_true rfl) q1197 rfl dX2_mix_114 rfl e (fun v15 _ e => ?_)
    refine v_iload_n (pc' := 118) hc_X2_mix dX2_mix_117 rfl rfl 4 rfl ?_
    obtain ⟨c16, e⟩ := gd_of e
    obtain ⟨r17, h18, e19, e⟩ := bd2_of e
    refine k_V (pc' := 121) (ci := 8) (n := 2) hc_X2_mix ho_X2_mix rfl c16 (w_X9_mixed D l hl x5 v15 x3 h12 e19) (wA_l q1223) q1224 (wA_l q1225) q108 q1226 hy_57 ⟨Nat.le_of_ble_eq_true rfl, Nat.le_of_ble_eq_true rfl⟩ rfl rfl (Nat.le_of_ble_eq_true rfl) dX2_mix_118 rfl (kS ?_) kN
    refine v_astore (pc' := 123) (lv' := [(7, .ref r17), (6, .ref r11), (0, .ref x0), (1, .int x1), (2, .int x2), (3, .int x3), (4, .ref x4), (5, .ref x5)]) hc_X2_mix dX2_mix_121 rfl (Nat.le_of_ble_eq_true rfl) rfl ?_
    refine v_aload_n (pc' := 124) hc_X2_mix dX2_mix_123 rfl rfl 2 rfl ?_
    refine v_gfR (pc' := 127) hc_X2_mix ho_X2_mix KX2 1 (Nat.le_of_ble_eq_true rfl) q166 (Or.inl rfl) dX2_mix_124 rfl e (fun v20 _ e => ?_)
    refine v_iload_n (pc' := 128) hc_X2_mix dX2_mix_127 rfl rfl 4 rfl ?_
    refine v_aload (pc' := 130) hc_X2_mix dX2_mix_128 rfl 0 rfl ?_
    obtain ⟨c21, e⟩ := gd_of e
    obtain ⟨r22, h23, e24, e⟩ := bd2_of e
    refine k_F (pc' := 135) (x := ⟨"java/util/List", "set", "(ILjava/lang/Object;)Ljava/lang/Object;"⟩) (y := ⟨"java/util/ArrayList", "set", "(ILjava/lang/Object;)Ljava/lang/Object;"⟩) (ci := 16) (n := 2) hc_X2_mix ho_X2_mix rfl c21 (w_J2_set D l hl v20 x2 r17 h18 e24) (wA_l q1175) (by decide +kernel) q1178 q1180 q79 q1182 hy_51 ⟨Nat.le_of_ble_eq_true rfl, Nat.le_of_ble_eq_true rfl⟩ rfl rfl (Nat.le_of_ble_eq_true rfl) dX2_mix_130 rfl (kS ?_) kN
    obtain ⟨c25, e⟩ := gd_of e
    refine v_cast (pc' := 138) (ci := 8) hc_X2_mix ho_X2_mix rfl q1187 (Or.inl rfl) dX2_mix_135 rfl c25 ?_
    refine v_astore (pc' := 140) (lv' := [(8, .ref r22), (7, .ref r17), (6, .ref r11), (0, .ref x0), (1, .int x1), (2, .int x2), (3, .int x3), (4, .ref x4), (5, .ref x5)]) hc_X2_mix dX2_mix_138 rfl (Nat.le_of_ble_eq_true rfl) rfl ?_
    refine v_aload (pc' := 142) hc_X2_mix dX2_mix_140 rfl 1 rfl ?_
    refine v_gnI (pc' := 145) hc_X2_mix ho_X2_mix KX9 1 (Nat.le_of_ble_eq_true rfl) q1197 rfl dX2_mix_142 rfl e (fun v26 _ e => ?_)
    obtain ⟨rfl, rfl⟩ := ret_of e
    exact v_iret hc_X2_mix rfl dX2_mix_145 rfl rfl
  · refine k_SN (pc' := 89) (x := ⟨"BlockPapers", "allow", "(ZII)V"⟩) (n := 3) hc_X2_mix ho_X2_mix (w_X1_allow D l hl s0 (3 : Int32) v1 h e4) q1090 q1091 q75 q1092 hy_44 ⟨Nat.le_of_ble_eq_true rfl, Nat.le_of_ble_eq_true rfl⟩ rfl rfl (Nat.le_of_ble_eq_true rfl) dX2_mix_86 rfl kM (kX ?_)
    exact v_outA (hp_X2_mix _) rfl rfl e
def f_X2_mix_j56 (x0 : Nat) (x1 : Int32) (x2 : Int32) (x3 : Int32) (x4 : Nat) (x5 : Nat) (s0 : Int32) (h : AH) : Option ((Int32 ⊕ Nat) × AH) :=
  bd (gtI h 8 x5 0) fun v1 =>
  bdX (f_X1_allow s0 (13 : Int32) v1 h) (fun zq6 h3 =>
    outX h3 zq6
  ) fun r2 h3 =>
  bd (gtI h3 8 x4 2) fun v5 =>
  if v5 < x3 then (
    f_X2_mix_j80 x0 x1 x2 x3 x4 x5 (0 : Int32) h3
  ) else (
    f_X2_mix_j80 x0 x1 x2 x3 x4 x5 (1 : Int32) h3
  )
theorem w_X2_mix_j56 (D : va_G) (l : Launch) (hl : l.stackTraces = false) (as : List Value) (h0 : AH) {r : (Int32 ⊕ Nat)} {hF : AH} (x0 : Nat) (x1 : Int32) (x2 : Int32) (x3 : Int32) (x4 : Nat) (x5 : Nat) (s0 : Int32) (h : AH) (e : f_X2_mix_j56 x0 x1 x2 x3 x4 x5 s0 h = some (r, hF)) : V (G_X2_mix D l as h0 hF ((oX oI) r)) h 56 [(0, .ref x0), (1, .int x1), (2, .int x2), (3, .int x3), (4, .ref x4), (5, .ref x5)] [.int s0] := by
  unfold f_X2_mix_j56 at e
  refine v_bipush (pc' := 58) (v := 13) hc_X2_mix dX2_mix_56 rfl rfl ?_
  refine v_aload (pc' := 60) hc_X2_mix dX2_mix_58 rfl 5 rfl ?_
  refine v_gnI (pc' := 63) hc_X2_mix ho_X2_mix KX9 0 (Nat.le_of_ble_eq_true rfl) q1194 rfl dX2_mix_60 rfl e (fun v1 _ e => ?_)
  rcases bdX_of e with ⟨r2, h3, e4, e⟩ | ⟨zq6, h3, e4, e⟩
  · refine k_SN (pc' := 66) (x := ⟨"BlockPapers", "allow", "(ZII)V"⟩) (n := 3) hc_X2_mix ho_X2_mix (w_X1_allow D l hl s0 (13 : Int32) v1 h e4) q1090 q1091 q75 q1092 hy_44 ⟨Nat.le_of_ble_eq_true rfl, Nat.le_of_ble_eq_true rfl⟩ rfl rfl (Nat.le_of_ble_eq_true rfl) dX2_mix_63 rfl (kU ?_) kN
    refine v_aload (pc' := 68) hc_X2_mix dX2_mix_66 rfl 4 rfl ?_
    refine v_gnI (pc' := 71) hc_X2_mix ho_X2_mix KX9 2 (Nat.le_of_ble_eq_true rfl) q1200 rfl dX2_mix_68 rfl e (fun v5 _ e => ?_)
    refine v_iload_n (pc' := 72) hc_X2_mix dX2_mix_71 rfl rfl 3 rfl ?_
    refine v_icmp_lt (pt := 79) (pf := 75) hc_X2_mix dX2_mix_72 rfl rfl e (fun _ e => ?_) (fun _ e => ?_)
    · refine v_iconst (pc' := 80) (v := 0) hc_X2_mix dX2_mix_79 rfl rfl ?_
      exact w_X2_mix_j80 D l hl as h0 x0 x1 x2 x3 x4 x5 (0 : Int32) h3 e
    · refine v_iconst (pc' := 76) (v := 1) hc_X2_mix dX2_mix_75 rfl rfl ?_
      refine v_goto (pt := 80) hc_X2_mix dX2_mix_76 rfl ?_
      exact w_X2_mix_j80 D l hl as h0 x0 x1 x2 x3 x4 x5 (1 : Int32) h3 e
  · refine k_SN (pc' := 66) (x := ⟨"BlockPapers", "allow", "(ZII)V"⟩) (n := 3) hc_X2_mix ho_X2_mix (w_X1_allow D l hl s0 (13 : Int32) v1 h e4) q1090 q1091 q75 q1092 hy_44 ⟨Nat.le_of_ble_eq_true rfl, Nat.le_of_ble_eq_true rfl⟩ rfl rfl (Nat.le_of_ble_eq_true rfl) dX2_mix_63 rfl kM (kX ?_)
    exact v_outA (hp_X2_mix _) rfl rfl e
def f_X2_mix_j35 (x0 : Nat) (x1 : Int32) (x2 : Int32) (x3 : Int32) (x4 : Nat) (x5 : Nat) (s0 : Int32) (h : AH) : Option ((Int32 ⊕ Nat) × AH) :=
  bdX (f_X1_require s0 h) (fun zq6 h2 =>
    outX h2 zq6
  ) fun r1 h2 =>
  bd (gtI h2 8 x4 0) fun v4 =>
  bd (gtI h2 8 x5 0) fun v5 =>
  if v4 = v5 then (
    f_X2_mix_j56 x0 x1 x2 x3 x4 x5 (1 : Int32) h2
  ) else (
    f_X2_mix_j56 x0 x1 x2 x3 x4 x5 (0 : Int32) h2
  )
theorem w_X2_mix_j35 (D : va_G) (l : Launch) (hl : l.stackTraces = false) (as : List Value) (h0 : AH) {r : (Int32 ⊕ Nat)} {hF : AH} (x0 : Nat) (x1 : Int32) (x2 : Int32) (x3 : Int32) (x4 : Nat) (x5 : Nat) (s0 : Int32) (h : AH) (e : f_X2_mix_j35 x0 x1 x2 x3 x4 x5 s0 h = some (r, hF)) : V (G_X2_mix D l as h0 hF ((oX oI) r)) h 35 [(0, .ref x0), (1, .int x1), (2, .int x2), (3, .int x3), (4, .ref x4), (5, .ref x5)] [.int s0] := by
  unfold f_X2_mix_j35 at e
  rcases bdX_of e with ⟨r1, h2, e3, e⟩ | ⟨zq6, h2, e3, e⟩
  · refine k_SN (pc' := 38) (x := ⟨"BlockPapers", "require", "(Z)V"⟩) (n := 1) hc_X2_mix ho_X2_mix (w_X1_require D l hl s0 h e3) q1089 q270 q75 q271 hy_40 ⟨Nat.le_of_ble_eq_true rfl, Nat.le_of_ble_eq_true rfl⟩ rfl rfl (Nat.le_of_ble_eq_true rfl) dX2_mix_35 rfl (kU ?_) kN
    refine v_aload (pc' := 40) hc_X2_mix dX2_mix_38 rfl 4 rfl ?_
    refine v_gnI (pc' := 43) hc_X2_mix ho_X2_mix KX9 0 (Nat.le_of_ble_eq_true rfl) q1194 rfl dX2_mix_40 rfl e (fun v4 _ e => ?_)
    refine v_aload (pc' := 45) hc_X2_mix dX2_mix_43 rfl 5 rfl ?_
    refine v_gnI (pc' := 48) hc_X2_mix ho_X2_mix KX9 0 (Nat.le_of_ble_eq_true rfl) q1194 rfl dX2_mix_45 rfl e (fun v5 _ e => ?_)
    refine v_icmp_ne (pt := 55) (pf := 51) hc_X2_mix dX2_mix_48 rfl rfl e (fun _ e => ?_) (fun _ e => ?_)
    · refine v_iconst (pc' := 52) (v := 1) hc_X2_mix dX2_mix_51 rfl rfl ?_
      refine v_goto (pt := 56) hc_X2_mix dX2_mix_52 rfl ?_
      exact w_X2_mix_j56 D l hl as h0 x0 x1 x2 x3 x4 x5 (1 : Int32) h2 e
    · refine v_iconst (pc' := 56) (v := 0) hc_X2_mix dX2_mix_55 rfl rfl ?_
      exact w_X2_mix_j56 D l hl as h0 x0 x1 x2 x3 x4 x5 (0 : Int32) h2 e
  · refine k_SN (pc' := 38) (x := ⟨"BlockPapers", "require", "(Z)V"⟩) (n := 1) hc_X2_mix ho_X2_mix (w_X1_require D l hl s0 h e3) q1089 q270 q75 q271 hy_40 ⟨Nat.le_of_ble_eq_true rfl, Nat.le_of_ble_eq_true rfl⟩ rfl rfl (Nat.le_of_ble_eq_true rfl) dX2_mix_35 rfl kM (kX ?_)
    exact v_outA (hp_X2_mix _) rfl rfl e
def f_X2_mix (x0 : Nat) (x1 : Int32) (x2 : Int32) (x3 : Int32) (h : AH) : Option ((Int32 ⊕ Nat) × AH) :=
  gd (isC h 1 x0) <|
  bdX (f_X2_ink x0 x1 h) (fun zq13 h3 =>
    outX h3 zq13
  ) fun r2 h3 =>
  gd (isC h3 1 x0) <|
  bdX (f_X2_ink x0 x2 h3) (fun zq12 h7 =>
    outX h7 zq12
  ) fun r6 h7 =>
  if x1 = x2 then (
    f_X2_mix_j35 x0 x1 x2 x3 r2 r6 (0 : Int32) h7
  ) else (
    bd2 (f_X1_inRange x3 (1 : Int32) (999 : Int32) h7) fun r9 h10 =>
    if r9 = 0 then (
      f_X2_mix_j35 x0 x1 x2 x3 r2 r6 (0 : Int32) h10
    ) else (
      f_X2_mix_j35 x0 x1 x2 x3 r2 r6 (1 : Int32) h10
    )
  )
theorem v_X2_mix (D : va_G) (l : Launch) (hl : l.stackTraces = false) (as : List Value) (h0 : AH) {r : (Int32 ⊕ Nat)} {hF : AH} (x0 : Nat) (x1 : Int32) (x2 : Int32) (x3 : Int32) (h : AH) (e : f_X2_mix x0 x1 x2 x3 h = some (r, hF)) : V (G_X2_mix D l as h0 hF ((oX oI) r)) h 0 [(0, .ref x0), (1, .int x1), (2, .int x2), (3, .int x3)] [] := by
  unfold f_X2_mix at e
  refine v_aload_n (pc' := 1) hc_X2_mix dX2_mix_0 rfl rfl 0 rfl ?_
  refine v_iload_n (pc' := 2) hc_X2_mix dX2_mix_1 rfl rfl 1 rfl ?_
  obtain ⟨c1, e⟩ := gd_of e
  rcases bdX_of e with ⟨r2, h3, e4, e⟩ | ⟨zq13, h3, e4, e⟩
  · refine k_V (pc' := 5) (ci := 1) (n := 1) hc_X2_mix ho_X2_mix rfl c1 (w_X2_ink D l hl x0 x1 h e4) (wA_l q1213) q1214 (wA_l q1215) q76 q1216 hy_55 ⟨Nat.le_of_ble_eq_true rfl, Nat.le_of_ble_eq_true rfl⟩ rfl rfl (Nat.le_of_ble_eq_true rfl) dX2_mix_2 rfl (kS ?_) kN
    refine v_astore (pc' := 7) (lv' := [(4, .ref r2), (0, .ref x0), (1, .int x1), (2, .int x2), (3, .int x3)]) hc_X2_mix dX2_mix_5 rfl (Nat.le_of_ble_eq_true rfl) rfl ?_
    refine v_aload_n (pc' := 8) hc_X2_mix dX2_mix_7 rfl rfl 1 rfl ?_
    refine v_iload_n (pc' := 9) hc_X2_mix dX2_mix_8 rfl rfl 3 rfl ?_
    obtain ⟨c5, e⟩ := gd_of e
    rcases bdX_of e with ⟨r6, h7, e8, e⟩ | ⟨zq12, h7, e8, e⟩
    · refine k_V (pc' := 12) (ci := 1) (n := 1) hc_X2_mix ho_X2_mix rfl c5 (w_X2_ink D l hl x0 x2 h3 e8) (wA_l q1213) q1214 (wA_l q1215) q76 q1216 hy_55 ⟨Nat.le_of_ble_eq_true rfl, Nat.le_of_ble_eq_true rfl⟩ rfl rfl (Nat.le_of_ble_eq_true rfl) dX2_mix_9 rfl (kS ?_) kN
      refine v_astore (pc' := 14) (lv' := [(5, .ref r6), (4, .ref r2), (0, .ref x0), (1, .int x1), (2, .int x2), (3, .int x3)]) hc_X2_mix dX2_mix_12 rfl (Nat.le_of_ble_eq_true rfl) rfl ?_
      refine v_iload_n (pc' := 15) hc_X2_mix dX2_mix_14 rfl rfl 3 rfl ?_
      refine v_iload_n (pc' := 16) hc_X2_mix dX2_mix_15 rfl rfl 4 rfl ?_
      refine v_icmp_eq (pt := 34) (pf := 19) hc_X2_mix dX2_mix_16 rfl rfl e (fun _ e => ?_) (fun _ e => ?_)
      · refine v_iconst (pc' := 35) (v := 0) hc_X2_mix dX2_mix_34 rfl rfl ?_
        refine v_pick [2, 3, 4, 5, 1, 0] rfl ?_
        exact w_X2_mix_j35 D l hl as h0 x0 x1 x2 x3 r2 r6 (0 : Int32) h7 e
      · refine v_iload_n (pc' := 20) hc_X2_mix dX2_mix_19 rfl rfl 5 rfl ?_
        refine v_iconst (pc' := 21) (v := 1) hc_X2_mix dX2_mix_20 rfl rfl ?_
        refine v_sipush (pc' := 24) (v := 999) hc_X2_mix dX2_mix_21 rfl rfl ?_
        obtain ⟨r9, h10, e11, e⟩ := bd2_of e
        refine k_SN (pc' := 27) (x := ⟨"BlockPapers", "inRange", "(III)Z"⟩) (n := 3) hc_X2_mix ho_X2_mix (w_X1_inRange D l hl x3 (1 : Int32) (999 : Int32) h7 e11) q1088 q267 q75 q268 hy_39 ⟨Nat.le_of_ble_eq_true rfl, Nat.le_of_ble_eq_true rfl⟩ rfl rfl (Nat.le_of_ble_eq_true rfl) dX2_mix_24 rfl (kS ?_) kN
        refine v_if_eq (pt := 34) (pf := 30) hc_X2_mix dX2_mix_27 rfl rfl e (fun _ e => ?_) (fun _ e => ?_)
        · refine v_iconst (pc' := 35) (v := 0) hc_X2_mix dX2_mix_34 rfl rfl ?_
          refine v_pick [2, 3, 4, 5, 1, 0] rfl ?_
          exact w_X2_mix_j35 D l hl as h0 x0 x1 x2 x3 r2 r6 (0 : Int32) h10 e
        · refine v_iconst (pc' := 31) (v := 1) hc_X2_mix dX2_mix_30 rfl rfl ?_
          refine v_goto (pt := 35) hc_X2_mix dX2_mix_31 rfl ?_
          refine v_pick [2, 3, 4, 5, 1, 0] rfl ?_
          exact w_X2_mix_j35 D l hl as h0 x0 x1 x2 x3 r2 r6 (1 : Int32) h10 e
    · refine k_V (pc' := 12) (ci := 1) (n := 1) hc_X2_mix ho_X2_mix rfl c5 (w_X2_ink D l hl x0 x2 h3 e8) (wA_l q1213) q1214 (wA_l q1215) q76 q1216 hy_55 ⟨Nat.le_of_ble_eq_true rfl, Nat.le_of_ble_eq_true rfl⟩ rfl rfl (Nat.le_of_ble_eq_true rfl) dX2_mix_9 rfl kM (kX ?_)
      exact v_outA (hp_X2_mix _) rfl rfl e
  · refine k_V (pc' := 5) (ci := 1) (n := 1) hc_X2_mix ho_X2_mix rfl c1 (w_X2_ink D l hl x0 x1 h e4) (wA_l q1213) q1214 (wA_l q1215) q76 q1216 hy_55 ⟨Nat.le_of_ble_eq_true rfl, Nat.le_of_ble_eq_true rfl⟩ rfl rfl (Nat.le_of_ble_eq_true rfl) dX2_mix_2 rfl kM (kX ?_)
    exact v_outA (hp_X2_mix _) rfl rfl e
theorem w_X2_mix (D : va_G) (l : Launch) (hl : l.stackTraces = false) (x0 : Nat) (x1 : Int32) (x2 : Int32) (x3 : Int32) (h : AH) {r : (Int32 ⊕ Nat)} {hF : AH} (e : f_X2_mix x0 x1 x2 x3 h = some (r, hF)) : MetV D l yX2_mix (Cond.code yX2_mix cX2_mix 9 (Option.some .int)) 8 140 [.ref x0, .int x1, .int x2, .int x3] h hF ((oX oI) r) :=
  met_ofF (by decide +kernel) hl (Nat.le_of_ble_eq_true rfl) rfl (v_X2_mix D l hl [.ref x0, .int x1, .int x2, .int x3] h x0 x1 x2 x3 h e)
/-! BlockPapers$Roll.<init>(IIIIIIZ)V  -/
abbrev G_X10_init_2 (D : va_G) (l : Launch) (as : List Value) (h0 hF : AH) (o : Out) : CT := (D, l, (yX10_init_2.cls, yX10_init_2, cX10_init_2, 8, (Option.none : Option FieldType), 1, 48, []), as, h0, hF, o)
theorem hc_X10_init_2 {D : va_G} {l : Launch} {as : List Value} {h0 hF : AH} {o : Out} : gC (G_X10_init_2 D l as h0 hF o) = cX10_init_2 := rfl
theorem ho_X10_init_2 {D : va_G} {l : Launch} {as : List Value} {h0 hF : AH} {o : Out} : gO (G_X10_init_2 D l as h0 hF o) = "BlockPapers$Roll" := rfl
theorem hp_X10_init_2 {D : va_G} {l : Launch} {as : List Value} {h0 hF : AH} {o : Out} (pc : Nat) : ∀ z ∈ tableOf (gHd (G_X10_init_2 D l as h0 hF o)), covers z pc = false := hpN
def f_X10_init_2 (x0 : Nat) (x1 : Int32) (x2 : Int32) (x3 : Int32) (x4 : Int32) (x5 : Int32) (x6 : Int32) (x7 : Int32) (h : AH) : Option (Unit × AH) :=
  bd (stF h 9 x0 0 (.int x1)) fun h1 =>
  bd (stF h1 9 x0 1 (.int x2)) fun h2 =>
  bd (stF h2 9 x0 2 (.int x3)) fun h3 =>
  bd (stF h3 9 x0 3 (.int x4)) fun h4 =>
  bd (stF h4 9 x0 4 (.int x5)) fun h5 =>
  bd (stF h5 9 x0 5 (.int x6)) fun h6 =>
  gd (nrw .boolean x7) <|
  bd (stF h6 9 x0 6 (.int x7)) fun h8 =>
  some ((), h8)
theorem v_X10_init_2 (D : va_G) (l : Launch) (hl : l.stackTraces = false) (as : List Value) (h0 : AH) {r : Unit} {hF : AH} (x0 : Nat) (x1 : Int32) (x2 : Int32) (x3 : Int32) (x4 : Int32) (x5 : Int32) (x6 : Int32) (x7 : Int32) (h : AH) (e : f_X10_init_2 x0 x1 x2 x3 x4 x5 x6 x7 h = some (r, hF)) : V (G_X10_init_2 D l as h0 hF (oV r)) h 0 [(0, .ref x0), (1, .int x1), (2, .int x2), (3, .int x3), (4, .int x4), (5, .int x5), (6, .int x6), (7, .int x7)] [] := by
  unfold f_X10_init_2 at e
  refine v_aload_n (pc' := 1) hc_X10_init_2 dX10_init_2_0 rfl rfl 0 rfl ?_
  refine v_oinit (pc' := 4) hc_X10_init_2 ho_X10_init_2 q1239 q127 q128 ⟨Nat.le_of_ble_eq_true rfl, Nat.le_of_ble_eq_true rfl⟩ dX10_init_2_1 rfl ?_
  refine v_aload_n (pc' := 5) hc_X10_init_2 dX10_init_2_4 rfl rfl 0 rfl ?_
  refine v_iload_n (pc' := 6) hc_X10_init_2 dX10_init_2_5 rfl rfl 1 rfl ?_
  refine v_pfF (pc' := 9) hc_X10_init_2 ho_X10_init_2 rfl KX10 0 (Nat.le_of_ble_eq_true rfl) q1240 rfl rfl rfl dX10_init_2_6 rfl rfl rfl e (fun h1 _ e => ?_)
  refine v_aload_n (pc' := 10) hc_X10_init_2 dX10_init_2_9 rfl rfl 0 rfl ?_
  refine v_iload_n (pc' := 11) hc_X10_init_2 dX10_init_2_10 rfl rfl 2 rfl ?_
  refine v_pfF (pc' := 14) hc_X10_init_2 ho_X10_init_2 rfl KX10 1 (Nat.le_of_ble_eq_true rfl) q1243 rfl rfl rfl dX10_init_2_11 rfl rfl rfl e (fun h2 _ e => ?_)
  refine v_aload_n (pc' := 15) hc_X10_init_2 dX10_init_2_14 rfl rfl 0 rfl ?_
  refine v_iload_n (pc' := 16) hc_X10_init_2 dX10_init_2_15 rfl rfl 3 rfl ?_
  refine v_pfF (pc' := 19) hc_X10_init_2 ho_X10_init_2 rfl KX10 2 (Nat.le_of_ble_eq_true rfl) q1245 rfl rfl rfl dX10_init_2_16 rfl rfl rfl e (fun h3 _ e => ?_)
  refine v_aload_n (pc' := 20) hc_X10_init_2 dX10_init_2_19 rfl rfl 0 rfl ?_
  refine v_iload (pc' := 22) hc_X10_init_2 dX10_init_2_20 rfl 4 rfl ?_
  refine v_pfF (pc' := 25) hc_X10_init_2 ho_X10_init_2 rfl KX10 3 (Nat.le_of_ble_eq_true rfl) q1248 rfl rfl rfl dX10_init_2_22 rfl rfl rfl e (fun h4 _ e => ?_)
  refine v_aload_n (pc' := 26) hc_X10_init_2 dX10_init_2_25 rfl rfl 0 rfl ?_
  refine v_iload (pc' := 28) hc_X10_init_2 dX10_init_2_26 rfl 5 rfl ?_
  refine v_pfF (pc' := 31) hc_X10_init_2 ho_X10_init_2 rfl KX10 4 (Nat.le_of_ble_eq_true rfl) q1251 rfl rfl rfl dX10_init_2_28 rfl rfl rfl e (fun h5 _ e => ?_)
  refine v_aload_n (pc' := 32) hc_X10_init_2 dX10_init_2_31 rfl rfl 0 rfl ?_
  refine v_iload (pc' := 34) hc_X10_init_2 dX10_init_2_32 rfl 6 rfl ?_
  refine v_pfF (pc' := 37) hc_X10_init_2 ho_X10_init_2 rfl KX10 5 (Nat.le_of_ble_eq_true rfl) q1255 rfl rfl rfl dX10_init_2_34 rfl rfl rfl e (fun h6 _ e => ?_)
  refine v_aload_n (pc' := 38) hc_X10_init_2 dX10_init_2_37 rfl rfl 0 rfl ?_
  refine v_iload (pc' := 40) hc_X10_init_2 dX10_init_2_38 rfl 7 rfl ?_
  obtain ⟨c7, e⟩ := gd_of e
  refine v_pfF (pc' := 43) hc_X10_init_2 ho_X10_init_2 rfl KX10 6 (Nat.le_of_ble_eq_true rfl) q1258 rfl rfl rfl dX10_init_2_40 rfl (nrw_of c7) (fit_of c7) e (fun h8 _ e => ?_)
  obtain ⟨rfl, rfl⟩ := ret_of e
  exact v_ret hc_X10_init_2 rfl dX10_init_2_43 rfl rfl
theorem w_X10_init_2 (D : va_G) (l : Launch) (hl : l.stackTraces = false) (x0 : Nat) (x1 : Int32) (x2 : Int32) (x3 : Int32) (x4 : Int32) (x5 : Int32) (x6 : Int32) (x7 : Int32) (h : AH) {r : Unit} {hF : AH} (e : f_X10_init_2 x0 x1 x2 x3 x4 x5 x6 x7 h = some (r, hF)) : MetV D l yX10_init_2 (Cond.code yX10_init_2 cX10_init_2 8 (Option.none : Option FieldType)) 1 48 [.ref x0, .int x1, .int x2, .int x3, .int x4, .int x5, .int x6, .int x7] h hF (oV r) :=
  met_ofF (by decide +kernel) hl (Nat.le_of_ble_eq_true rfl) rfl (v_X10_init_2 D l hl [.ref x0, .int x1, .int x2, .int x3, .int x4, .int x5, .int x6, .int x7] h x0 x1 x2 x3 x4 x5 x6 x7 h e)
/-! BlockPapers$Roll.<init>(IIIII)V  -/
abbrev G_X10_init (D : va_G) (l : Launch) (as : List Value) (h0 hF : AH) (o : Out) : CT := (D, l, (yX10_init.cls, yX10_init, cX10_init, 6, (Option.none : Option FieldType), 2, 75, []), as, h0, hF, o)
theorem hc_X10_init {D : va_G} {l : Launch} {as : List Value} {h0 hF : AH} {o : Out} : gC (G_X10_init D l as h0 hF o) = cX10_init := rfl
theorem ho_X10_init {D : va_G} {l : Launch} {as : List Value} {h0 hF : AH} {o : Out} : gO (G_X10_init D l as h0 hF o) = "BlockPapers$Roll" := rfl
theorem hp_X10_init {D : va_G} {l : Launch} {as : List Value} {h0 hF : AH} {o : Out} (pc : Nat) : ∀ z ∈ tableOf (gHd (G_X10_init D l as h0 hF o)), covers z pc = false := hpN
def f_X10_init (x0 : Nat) (x1 : Int32) (x2 : Int32) (x3 : Int32) (x4 : Int32) (x5 : Int32) (h : AH) : Option (Unit × AH) :=
  bd2 (f_X10_init_2 x0 x1 x2 x3 x4 x5 (0 : Int32) (0 : Int32) h) fun r1 h2 =>
  some ((), h2)
theorem v_X10_init (D : va_G) (l : Launch) (hl : l.stackTraces = false) (as : List Value) (h0 : AH) {r : Unit} {hF : AH} (x0 : Nat) (x1 : Int32) (x2 : Int32) (x3 : Int32) (x4 : Int32) (x5 : Int32) (h : AH) (e : f_X10_init x0 x1 x2 x3 x4 x5 h = some (r, hF)) : V (G_X10_init D l as h0 hF (oV r)) h 0 [(0, .ref x0), (1, .int x1), (2, .int x2), (3, .int x3), (4, .int x4), (5, .int x5)] [] := by
  unfold f_X10_init at e
  refine v_aload_n (pc' := 1) hc_X10_init dX10_init_0 rfl rfl 0 rfl ?_
  refine v_iload_n (pc' := 2) hc_X10_init dX10_init_1 rfl rfl 1 rfl ?_
  refine v_iload_n (pc' := 3) hc_X10_init dX10_init_2 rfl rfl 2 rfl ?_
  refine v_iload_n (pc' := 4) hc_X10_init dX10_init_3 rfl rfl 3 rfl ?_
  refine v_iload (pc' := 6) hc_X10_init dX10_init_4 rfl 4 rfl ?_
  refine v_iload (pc' := 8) hc_X10_init dX10_init_6 rfl 5 rfl ?_
  refine v_iconst (pc' := 9) (v := 0) hc_X10_init dX10_init_8 rfl rfl ?_
  refine v_iconst (pc' := 10) (v := 0) hc_X10_init dX10_init_9 rfl rfl ?_
  obtain ⟨r1, h2, e3, e⟩ := bd2_of e
  refine k_I (pc' := 13) (n := 7) hc_X10_init ho_X10_init (w_X10_init_2 D l hl x0 x1 x2 x3 x4 x5 (0 : Int32) (0 : Int32) h e3) (wA_l q1236) q1237 q109 q1238 rfl hy_59 ⟨Nat.le_of_ble_eq_true rfl, Nat.le_of_ble_eq_true rfl⟩ rfl rfl (Nat.le_of_ble_eq_true rfl) dX10_init_10 rfl (kU ?_) kN
  obtain ⟨rfl, rfl⟩ := ret_of e
  exact v_ret hc_X10_init rfl dX10_init_13 rfl rfl
theorem w_X10_init (D : va_G) (l : Launch) (hl : l.stackTraces = false) (x0 : Nat) (x1 : Int32) (x2 : Int32) (x3 : Int32) (x4 : Int32) (x5 : Int32) (h : AH) {r : Unit} {hF : AH} (e : f_X10_init x0 x1 x2 x3 x4 x5 h = some (r, hF)) : MetV D l yX10_init (Cond.code yX10_init cX10_init 6 (Option.none : Option FieldType)) 2 75 [.ref x0, .int x1, .int x2, .int x3, .int x4, .int x5] h hF (oV r) :=
  met_ofF (by decide +kernel) hl (Nat.le_of_ble_eq_true rfl) rfl (v_X10_init D l hl [.ref x0, .int x1, .int x2, .int x3, .int x4, .int x5] h x0 x1 x2 x3 x4 x5 h e)
/-! BlockPapers$Block.worn(I)LBlockPapers$Block;  -/
abbrev G_X8_worn (D : va_G) (l : Launch) (as : List Value) (h0 hF : AH) (o : Out) : CT := (D, l, (yX8_worn.cls, yX8_worn, cX8_worn, 2, (Option.some (.object "BlockPapers$Block")), 2, 71, []), as, h0, hF, o)
theorem hc_X8_worn {D : va_G} {l : Launch} {as : List Value} {h0 hF : AH} {o : Out} : gC (G_X8_worn D l as h0 hF o) = cX8_worn := rfl
theorem ho_X8_worn {D : va_G} {l : Launch} {as : List Value} {h0 hF : AH} {o : Out} : gO (G_X8_worn D l as h0 hF o) = "BlockPapers$Block" := rfl
theorem hp_X8_worn {D : va_G} {l : Launch} {as : List Value} {h0 hF : AH} {o : Out} (pc : Nat) : ∀ z ∈ tableOf (gHd (G_X8_worn D l as h0 hF o)), covers z pc = false := hpN
def f_X8_worn (x0 : Nat) (x1 : Int32) (h : AH) : Option (Nat × AH) :=
  bd2 (nwX h 7 3 fsX8) fun a2 h1 =>
  bd (gtI h1 7 x0 0) fun v3 =>
  bd (gtI h1 7 x0 1) fun v4 =>
  bd (gtI h1 7 x0 2) fun v5 =>
  bd2 (f_J15_min (100 : Int32) (v5 + x1) h1) fun r6 h7 =>
  bd2 (f_X8_init_2 a2 v3 v4 r6 h7) fun r9 h10 =>
  some (a2, h10)
theorem v_X8_worn (D : va_G) (l : Launch) (hl : l.stackTraces = false) (as : List Value) (h0 : AH) {r : Nat} {hF : AH} (x0 : Nat) (x1 : Int32) (h : AH) (e : f_X8_worn x0 x1 h = some (r, hF)) : V (G_X8_worn D l as h0 hF (oR r)) h 0 [(0, .ref x0), (1, .int x1)] [] := by
  unfold f_X8_worn at e
  refine v_newX (pc' := 3) hc_X8_worn ho_X8_worn KX8 q1173 q1121 q107 rfl dfX8 dX8_worn_0 rfl e (fun a2 h1 _ e => ?_)
  refine v_dup (pc' := 4) hc_X8_worn dX8_worn_3 rfl rfl ?_
  refine v_aload_n (pc' := 5) hc_X8_worn dX8_worn_4 rfl rfl 0 rfl ?_
  refine v_gfI (pc' := 8) hc_X8_worn ho_X8_worn KX8 0 (Nat.le_of_ble_eq_true rfl) q1129 (Or.inl rfl) dX8_worn_5 rfl e (fun v3 _ e => ?_)
  refine v_aload_n (pc' := 9) hc_X8_worn dX8_worn_8 rfl rfl 0 rfl ?_
  refine v_gfI (pc' := 12) hc_X8_worn ho_X8_worn KX8 1 (Nat.le_of_ble_eq_true rfl) q1131 (Or.inl rfl) dX8_worn_9 rfl e (fun v4 _ e => ?_)
  refine v_bipush (pc' := 14) (v := 100) hc_X8_worn dX8_worn_12 rfl rfl ?_
  refine v_aload_n (pc' := 15) hc_X8_worn dX8_worn_14 rfl rfl 0 rfl ?_
  refine v_gfI (pc' := 18) hc_X8_worn ho_X8_worn KX8 2 (Nat.le_of_ble_eq_true rfl) q1133 (Or.inl rfl) dX8_worn_15 rfl e (fun v5 _ e => ?_)
  refine v_iload_n (pc' := 19) hc_X8_worn dX8_worn_18 rfl rfl 1 rfl ?_
  refine v_iadd (pc' := 20) hc_X8_worn dX8_worn_19 rfl ?_
  obtain ⟨r6, h7, e8, e⟩ := bd2_of e
  refine k_S (pc' := 23) (n := 2) hc_X8_worn ho_X8_worn (w_J15_min D l hl (100 : Int32) (v5 + x1) h1 e8) (wA_l q1280) q633 q95 q634 hy_11 ⟨Nat.le_of_ble_eq_true rfl, Nat.le_of_ble_eq_true rfl⟩ rfl rfl (Nat.le_of_ble_eq_true rfl) dX8_worn_20 rfl (kS ?_) kN
  obtain ⟨r9, h10, e11, e⟩ := bd2_of e
  refine k_I (pc' := 26) (n := 3) hc_X8_worn ho_X8_worn (w_X8_init_2 D l hl a2 v3 v4 r6 h7 e11) (wA_l q1125) q1126 q107 q1127 rfl hy_45 ⟨Nat.le_of_ble_eq_true rfl, Nat.le_of_ble_eq_true rfl⟩ rfl rfl (Nat.le_of_ble_eq_true rfl) dX8_worn_23 rfl (kU ?_) kN
  obtain ⟨rfl, rfl⟩ := ret_of e
  exact v_aret hc_X8_worn rfl (Or.inl ⟨_, rfl⟩) (Or.inr ⟨_, rfl⟩) dX8_worn_26 rfl rfl
theorem w_X8_worn (D : va_G) (l : Launch) (hl : l.stackTraces = false) (x0 : Nat) (x1 : Int32) (h : AH) {r : Nat} {hF : AH} (e : f_X8_worn x0 x1 h = some (r, hF)) : MetV D l yX8_worn (Cond.code yX8_worn cX8_worn 2 (Option.some (.object "BlockPapers$Block"))) 2 71 [.ref x0, .int x1] h hF (oR r) :=
  met_ofF (by decide +kernel) hl (Nat.le_of_ble_eq_true rfl) rfl (v_X8_worn D l hl [.ref x0, .int x1] h x0 x1 h e)
/-! BlockPapers$Workshop.print(III)I  -/
abbrev G_X2_print (D : va_G) (l : Launch) (as : List Value) (h0 hF : AH) (o : Out) : CT := (D, l, (yX2_print.cls, yX2_print, cX2_print, 9, (Option.some .int), 8, 200, []), as, h0, hF, o)
theorem hc_X2_print {D : va_G} {l : Launch} {as : List Value} {h0 hF : AH} {o : Out} : gC (G_X2_print D l as h0 hF o) = cX2_print := rfl
theorem ho_X2_print {D : va_G} {l : Launch} {as : List Value} {h0 hF : AH} {o : Out} : gO (G_X2_print D l as h0 hF o) = "BlockPapers$Workshop" := rfl
theorem hp_X2_print {D : va_G} {l : Launch} {as : List Value} {h0 hF : AH} {o : Out} (pc : Nat) : ∀ z ∈ tableOf (gHd (G_X2_print D l as h0 hF o)), covers z pc = false := hpN
def f_X2_print_j101 (x0 : Nat) (x1 : Int32) (x2 : Int32) (x3 : Int32) (x4 : Nat) (x5 : Nat) (x6 : Int32) (s0 : Int32) (h : AH) : Option ((Int32 ⊕ Nat) × AH) :=
  bdX (f_X1_allow s0 (1 : Int32) (24 : Int32) h) (fun zq42 h2 =>
    outX h2 zq42
  ) fun r1 h2 =>
  bd (gtR h2 1 x0 2) fun v4 =>
  bd2 (nwX h2 9 7 fsX10) fun a6 h5 =>
  bd (gtI h5 8 x5 0) fun v7 =>
  bd (gtI h5 8 x5 1) fun v8 =>
  bd (gtI h5 7 x4 2) fun v9 =>
  bd2 (f_X10_init a6 x1 x2 v7 (v8 + (v9 / (25 : Int32))) x3 h5) fun r10 h11 =>
  gd (isC h11 16 v4) <|
  bd2 (f_J2_add v4 a6 h11) fun r14 h15 =>
  bd (gtR h15 1 x0 0) fun v17 =>
  gd (isC h15 7 x4) <|
  bd2 (f_X8_worn x4 (x3 / (100 : Int32)) h15) fun r19 h20 =>
  gd (isC h20 16 v17) <|
  bd2 (f_J2_set v17 x1 r19 h20) fun r23 h24 =>
  gd (isC h24 7 r23) <|
  bd (gtR h24 1 x0 1) fun v27 =>
  gd (isC h24 8 x5) <|
  bd2 (f_X9_less x5 x6 h24) fun r29 h30 =>
  gd (isC h30 16 v27) <|
  bd2 (f_J2_set v27 x2 r29 h30) fun r33 h34 =>
  gd (isC h34 8 r33) <|
  bd (gtR h34 1 x0 2) fun v37 =>
  gd (isC h34 16 v37) <|
  bd2 (f_J2_size v37 h34) fun r39 h40 =>
  some (.inl (r39 - (1 : Int32)), h40)
theorem w_X2_print_j101 (D : va_G) (l : Launch) (hl : l.stackTraces = false) (as : List Value) (h0 : AH) {r : (Int32 ⊕ Nat)} {hF : AH} (x0 : Nat) (x1 : Int32) (x2 : Int32) (x3 : Int32) (x4 : Nat) (x5 : Nat) (x6 : Int32) (s0 : Int32) (h : AH) (e : f_X2_print_j101 x0 x1 x2 x3 x4 x5 x6 s0 h = some (r, hF)) : V (G_X2_print D l as h0 hF ((oX oI) r)) h 101 [(0, .ref x0), (1, .int x1), (2, .int x2), (3, .int x3), (4, .ref x4), (5, .ref x5), (6, .int x6)] [.int s0] := by
  unfold f_X2_print_j101 at e
  refine v_iconst (pc' := 102) (v := 1) hc_X2_print dX2_print_101 rfl rfl ?_
  refine v_bipush (pc' := 104) (v := 24) hc_X2_print dX2_print_102 rfl rfl ?_
  rcases bdX_of e with ⟨r1, h2, e3, e⟩ | ⟨zq42, h2, e3, e⟩
  · refine k_SN (pc' := 107) (x := ⟨"BlockPapers", "allow", "(ZII)V"⟩) (n := 3) hc_X2_print ho_X2_print (w_X1_allow D l hl s0 (1 : Int32) (24 : Int32) h e3) q1090 q1091 q75 q1092 hy_44 ⟨Nat.le_of_ble_eq_true rfl, Nat.le_of_ble_eq_true rfl⟩ rfl rfl (Nat.le_of_ble_eq_true rfl) dX2_print_104 rfl (kU ?_) kN
    refine v_aload_n (pc' := 108) hc_X2_print dX2_print_107 rfl rfl 0 rfl ?_
    refine v_gfR (pc' := 111) hc_X2_print ho_X2_print KX2 2 (Nat.le_of_ble_eq_true rfl) q169 (Or.inl rfl) dX2_print_108 rfl e (fun v4 _ e => ?_)
    refine v_newX (pc' := 114) hc_X2_print ho_X2_print KX10 q516 q1232 q109 rfl dfX10 dX2_print_111 rfl e (fun a6 h5 _ e => ?_)
    refine v_dup (pc' := 115) hc_X2_print dX2_print_114 rfl rfl ?_
    refine v_iload_n (pc' := 116) hc_X2_print dX2_print_115 rfl rfl 1 rfl ?_
    refine v_iload_n (pc' := 117) hc_X2_print dX2_print_116 rfl rfl 2 rfl ?_
    refine v_aload (pc' := 119) hc_X2_print dX2_print_117 rfl 5 rfl ?_
    refine v_gnI (pc' := 122) hc_X2_print ho_X2_print KX9 0 (Nat.le_of_ble_eq_true rfl) q1194 rfl dX2_print_119 rfl e (fun v7 _ e => ?_)
    refine v_aload (pc' := 124) hc_X2_print dX2_print_122 rfl 5 rfl ?_
    refine v_gnI (pc' := 127) hc_X2_print ho_X2_print KX9 1 (Nat.le_of_ble_eq_true rfl) q1197 rfl dX2_print_124 rfl e (fun v8 _ e => ?_)
    refine v_aload (pc' := 129) hc_X2_print dX2_print_127 rfl 4 rfl ?_
    refine v_gnI (pc' := 132) hc_X2_print ho_X2_print KX8 2 (Nat.le_of_ble_eq_true rfl) q1134 rfl dX2_print_129 rfl e (fun v9 _ e => ?_)
    refine v_bipush (pc' := 134) (v := 25) hc_X2_print dX2_print_132 rfl rfl ?_
    refine v_idiv (pc' := 135) hc_X2_print dX2_print_134 rfl (by decide) ?_
    refine v_iadd (pc' := 136) hc_X2_print dX2_print_135 rfl ?_
    refine v_iload_n (pc' := 137) hc_X2_print dX2_print_136 rfl rfl 3 rfl ?_
    obtain ⟨r10, h11, e12, e⟩ := bd2_of e
    refine k_I (pc' := 140) (n := 5) hc_X2_print ho_X2_print (w_X10_init D l hl a6 x1 x2 v7 (v8 + (v9 / (25 : Int32))) x3 h5 e12) (wA_l q1233) q1234 q109 q1235 rfl hy_60 ⟨Nat.le_of_ble_eq_true rfl, Nat.le_of_ble_eq_true rfl⟩ rfl rfl (Nat.le_of_ble_eq_true rfl) dX2_print_137 rfl (kU ?_) kN
    obtain ⟨c13, e⟩ := gd_of e
    obtain ⟨r14, h15, e16, e⟩ := bd2_of e
    refine k_F (pc' := 145) (x := ⟨"java/util/List", "add", "(Ljava/lang/Object;)Z"⟩) (y := ⟨"java/util/ArrayList", "add", "(Ljava/lang/Object;)Z"⟩) (ci := 16) (n := 1) hc_X2_print ho_X2_print rfl c13 (w_J2_add D l hl v4 a6 h11 e16) (wA_l q904) (by decide +kernel) q907 q909 q79 q911 hy_28 ⟨Nat.le_of_ble_eq_true rfl, Nat.le_of_ble_eq_true rfl⟩ rfl rfl (Nat.le_of_ble_eq_true rfl) dX2_print_140 rfl (kS ?_) kN
    refine v_pop (pc' := 146) hc_X2_print dX2_print_145 rfl rfl ?_
    refine v_aload_n (pc' := 147) hc_X2_print dX2_print_146 rfl rfl 0 rfl ?_
    refine v_gfR (pc' := 150) hc_X2_print ho_X2_print KX2 0 (Nat.le_of_ble_eq_true rfl) q164 (Or.inl rfl) dX2_print_147 rfl e (fun v17 _ e => ?_)
    refine v_iload_n (pc' := 151) hc_X2_print dX2_print_150 rfl rfl 1 rfl ?_
    refine v_aload (pc' := 153) hc_X2_print dX2_print_151 rfl 4 rfl ?_
    refine v_iload_n (pc' := 154) hc_X2_print dX2_print_153 rfl rfl 3 rfl ?_
    refine v_bipush (pc' := 156) (v := 100) hc_X2_print dX2_print_154 rfl rfl ?_
    refine v_idiv (pc' := 157) hc_X2_print dX2_print_156 rfl (by decide) ?_
    obtain ⟨c18, e⟩ := gd_of e
    obtain ⟨r19, h20, e21, e⟩ := bd2_of e
    refine k_V (pc' := 160) (ci := 7) (n := 1) hc_X2_print ho_X2_print rfl c18 (w_X8_worn D l hl x4 (x3 / (100 : Int32)) h15 e21) (wA_l q1276) q1277 (wA_l q1278) q107 q1279 hy_61 ⟨Nat.le_of_ble_eq_true rfl, Nat.le_of_ble_eq_true rfl⟩ rfl rfl (Nat.le_of_ble_eq_true rfl) dX2_print_157 rfl (kS ?_) kN
    obtain ⟨c22, e⟩ := gd_of e
    obtain ⟨r23, h24, e25, e⟩ := bd2_of e
    refine k_F (pc' := 165) (x := ⟨"java/util/List", "set", "(ILjava/lang/Object;)Ljava/lang/Object;"⟩) (y := ⟨"java/util/ArrayList", "set", "(ILjava/lang/Object;)Ljava/lang/Object;"⟩) (ci := 16) (n := 2) hc_X2_print ho_X2_print rfl c22 (w_J2_set D l hl v17 x1 r19 h20 e25) (wA_l q1175) (by decide +kernel) q1178 q1180 q79 q1182 hy_51 ⟨Nat.le_of_ble_eq_true rfl, Nat.le_of_ble_eq_true rfl⟩ rfl rfl (Nat.le_of_ble_eq_true rfl) dX2_print_160 rfl (kS ?_) kN
    obtain ⟨c26, e⟩ := gd_of e
    refine v_cast (pc' := 168) (ci := 7) hc_X2_print ho_X2_print rfl q1120 (Or.inl rfl) dX2_print_165 rfl c26 ?_
    refine v_astore (pc' := 170) (lv' := [(7, .ref r23), (0, .ref x0), (1, .int x1), (2, .int x2), (3, .int x3), (4, .ref x4), (5, .ref x5), (6, .int x6)]) hc_X2_print dX2_print_168 rfl (Nat.le_of_ble_eq_true rfl) rfl ?_
    refine v_aload_n (pc' := 171) hc_X2_print dX2_print_170 rfl rfl 1 rfl ?_
    refine v_gfR (pc' := 174) hc_X2_print ho_X2_print KX2 1 (Nat.le_of_ble_eq_true rfl) q166 (Or.inl rfl) dX2_print_171 rfl e (fun v27 _ e => ?_)
    refine v_iload_n (pc' := 175) hc_X2_print dX2_print_174 rfl rfl 3 rfl ?_
    refine v_aload (pc' := 177) hc_X2_print dX2_print_175 rfl 6 rfl ?_
    refine v_iload (pc' := 179) hc_X2_print dX2_print_177 rfl 7 rfl ?_
    obtain ⟨c28, e⟩ := gd_of e
    obtain ⟨r29, h30, e31, e⟩ := bd2_of e
    refine k_V (pc' := 182) (ci := 8) (n := 1) hc_X2_print ho_X2_print rfl c28 (w_X9_less D l hl x5 x6 h24 e31) (wA_l q1217) q1218 (wA_l q1219) q108 q1220 hy_56 ⟨Nat.le_of_ble_eq_true rfl, Nat.le_of_ble_eq_true rfl⟩ rfl rfl (Nat.le_of_ble_eq_true rfl) dX2_print_179 rfl (kS ?_) kN
    obtain ⟨c32, e⟩ := gd_of e
    obtain ⟨r33, h34, e35, e⟩ := bd2_of e
    refine k_F (pc' := 187) (x := ⟨"java/util/List", "set", "(ILjava/lang/Object;)Ljava/lang/Object;"⟩) (y := ⟨"java/util/ArrayList", "set", "(ILjava/lang/Object;)Ljava/lang/Object;"⟩) (ci := 16) (n := 2) hc_X2_print ho_X2_print rfl c32 (w_J2_set D l hl v27 x2 r29 h30 e35) (wA_l q1175) (by decide +kernel) q1178 q1180 q79 q1182 hy_51 ⟨Nat.le_of_ble_eq_true rfl, Nat.le_of_ble_eq_true rfl⟩ rfl rfl (Nat.le_of_ble_eq_true rfl) dX2_print_182 rfl (kS ?_) kN
    obtain ⟨c36, e⟩ := gd_of e
    refine v_cast (pc' := 190) (ci := 8) hc_X2_print ho_X2_print rfl q1187 (Or.inl rfl) dX2_print_187 rfl c36 ?_
    refine v_astore (pc' := 192) (lv' := [(8, .ref r33), (7, .ref r23), (0, .ref x0), (1, .int x1), (2, .int x2), (3, .int x3), (4, .ref x4), (5, .ref x5), (6, .int x6)]) hc_X2_print dX2_print_190 rfl (Nat.le_of_ble_eq_true rfl) rfl ?_
    refine v_aload_n (pc' := 193) hc_X2_print dX2_print_192 rfl rfl 2 rfl ?_
    refine v_gfR (pc' := 196) hc_X2_print ho_X2_print KX2 2 (Nat.le_of_ble_eq_true rfl) q169 (Or.inl rfl) dX2_print_193 rfl e (fun v37 _ e => ?_)
    obtain ⟨c38, e⟩ := gd_of e
    obtain ⟨r39, h40, e41, e⟩ := bd2_of e
    refine k_F (pc' := 201) (x := ⟨"java/util/List", "size", "()I"⟩) (y := ⟨"java/util/ArrayList", "size", "()I"⟩) (ci := 16) (n := 0) hc_X2_print ho_X2_print rfl c38 (w_J2_size D l hl v37 h34 e41) (wA_l q513) (by decide +kernel) q348 q350 q79 q352 hy_19 ⟨Nat.le_of_ble_eq_true rfl, Nat.le_of_ble_eq_true rfl⟩ rfl rfl (Nat.le_of_ble_eq_true rfl) dX2_print_196 rfl (kS ?_) kN
    refine v_iconst (pc' := 202) (v := 1) hc_X2_print dX2_print_201 rfl rfl ?_
    refine v_isub (pc' := 203) hc_X2_print dX2_print_202 rfl ?_
    obtain ⟨rfl, rfl⟩ := ret_of e
    exact v_iret hc_X2_print rfl dX2_print_203 rfl rfl
  · refine k_SN (pc' := 107) (x := ⟨"BlockPapers", "allow", "(ZII)V"⟩) (n := 3) hc_X2_print ho_X2_print (w_X1_allow D l hl s0 (1 : Int32) (24 : Int32) h e3) q1090 q1091 q75 q1092 hy_44 ⟨Nat.le_of_ble_eq_true rfl, Nat.le_of_ble_eq_true rfl⟩ rfl rfl (Nat.le_of_ble_eq_true rfl) dX2_print_104 rfl kM (kX ?_)
    exact v_outA (hp_X2_print _) rfl rfl e
def f_X2_print_j73 (x0 : Nat) (x1 : Int32) (x2 : Int32) (x3 : Int32) (x4 : Nat) (x5 : Nat) (x6 : Int32) (s0 : Int32) (h : AH) : Option ((Int32 ⊕ Nat) × AH) :=
  bd (gtI h 8 x5 2) fun v1 =>
  bdX (f_X1_allow s0 (3 : Int32) v1 h) (fun zq10 h3 =>
    outX h3 zq10
  ) fun r2 h3 =>
  bd (gtR h3 1 x0 2) fun v5 =>
  gd (isC h3 16 v5) <|
  bd2 (f_J2_size v5 h3) fun r7 h8 =>
  if (24 : Int32) ≤ r7 then (
    f_X2_print_j101 x0 x1 x2 x3 x4 x5 x6 (0 : Int32) h8
  ) else (
    f_X2_print_j101 x0 x1 x2 x3 x4 x5 x6 (1 : Int32) h8
  )
theorem w_X2_print_j73 (D : va_G) (l : Launch) (hl : l.stackTraces = false) (as : List Value) (h0 : AH) {r : (Int32 ⊕ Nat)} {hF : AH} (x0 : Nat) (x1 : Int32) (x2 : Int32) (x3 : Int32) (x4 : Nat) (x5 : Nat) (x6 : Int32) (s0 : Int32) (h : AH) (e : f_X2_print_j73 x0 x1 x2 x3 x4 x5 x6 s0 h = some (r, hF)) : V (G_X2_print D l as h0 hF ((oX oI) r)) h 73 [(0, .ref x0), (1, .int x1), (2, .int x2), (3, .int x3), (4, .ref x4), (5, .ref x5), (6, .int x6)] [.int s0] := by
  unfold f_X2_print_j73 at e
  refine v_iconst (pc' := 74) (v := 3) hc_X2_print dX2_print_73 rfl rfl ?_
  refine v_aload (pc' := 76) hc_X2_print dX2_print_74 rfl 5 rfl ?_
  refine v_gnI (pc' := 79) hc_X2_print ho_X2_print KX9 2 (Nat.le_of_ble_eq_true rfl) q1200 rfl dX2_print_76 rfl e (fun v1 _ e => ?_)
  rcases bdX_of e with ⟨r2, h3, e4, e⟩ | ⟨zq10, h3, e4, e⟩
  · refine k_SN (pc' := 82) (x := ⟨"BlockPapers", "allow", "(ZII)V"⟩) (n := 3) hc_X2_print ho_X2_print (w_X1_allow D l hl s0 (3 : Int32) v1 h e4) q1090 q1091 q75 q1092 hy_44 ⟨Nat.le_of_ble_eq_true rfl, Nat.le_of_ble_eq_true rfl⟩ rfl rfl (Nat.le_of_ble_eq_true rfl) dX2_print_79 rfl (kU ?_) kN
    refine v_aload_n (pc' := 83) hc_X2_print dX2_print_82 rfl rfl 0 rfl ?_
    refine v_gfR (pc' := 86) hc_X2_print ho_X2_print KX2 2 (Nat.le_of_ble_eq_true rfl) q169 (Or.inl rfl) dX2_print_83 rfl e (fun v5 _ e => ?_)
    obtain ⟨c6, e⟩ := gd_of e
    obtain ⟨r7, h8, e9, e⟩ := bd2_of e
    refine k_F (pc' := 91) (x := ⟨"java/util/List", "size", "()I"⟩) (y := ⟨"java/util/ArrayList", "size", "()I"⟩) (ci := 16) (n := 0) hc_X2_print ho_X2_print rfl c6 (w_J2_size D l hl v5 h3 e9) (wA_l q513) (by decide +kernel) q348 q350 q79 q352 hy_19 ⟨Nat.le_of_ble_eq_true rfl, Nat.le_of_ble_eq_true rfl⟩ rfl rfl (Nat.le_of_ble_eq_true rfl) dX2_print_86 rfl (kS ?_) kN
    refine v_bipush (pc' := 93) (v := 24) hc_X2_print dX2_print_91 rfl rfl ?_
    refine v_icmp_ge (pt := 100) (pf := 96) hc_X2_print dX2_print_93 rfl rfl e (fun _ e => ?_) (fun _ e => ?_)
    · refine v_iconst (pc' := 101) (v := 0) hc_X2_print dX2_print_100 rfl rfl ?_
      exact w_X2_print_j101 D l hl as h0 x0 x1 x2 x3 x4 x5 x6 (0 : Int32) h8 e
    · refine v_iconst (pc' := 97) (v := 1) hc_X2_print dX2_print_96 rfl rfl ?_
      refine v_goto (pt := 101) hc_X2_print dX2_print_97 rfl ?_
      exact w_X2_print_j101 D l hl as h0 x0 x1 x2 x3 x4 x5 x6 (1 : Int32) h8 e
  · refine k_SN (pc' := 82) (x := ⟨"BlockPapers", "allow", "(ZII)V"⟩) (n := 3) hc_X2_print ho_X2_print (w_X1_allow D l hl s0 (3 : Int32) v1 h e4) q1090 q1091 q75 q1092 hy_44 ⟨Nat.le_of_ble_eq_true rfl, Nat.le_of_ble_eq_true rfl⟩ rfl rfl (Nat.le_of_ble_eq_true rfl) dX2_print_79 rfl kM (kX ?_)
    exact v_outA (hp_X2_print _) rfl rfl e
def f_X2_print_j49 (x0 : Nat) (x1 : Int32) (x2 : Int32) (x3 : Int32) (x4 : Nat) (x5 : Nat) (x6 : Int32) (s0 : Int32) (h : AH) : Option ((Int32 ⊕ Nat) × AH) :=
  bd (gtI h 7 x4 2) fun v1 =>
  bdX (f_X1_allow s0 (2 : Int32) v1 h) (fun zq6 h3 =>
    outX h3 zq6
  ) fun r2 h3 =>
  bd (gtI h3 8 x5 2) fun v5 =>
  if v5 < x6 then (
    f_X2_print_j73 x0 x1 x2 x3 x4 x5 x6 (0 : Int32) h3
  ) else (
    f_X2_print_j73 x0 x1 x2 x3 x4 x5 x6 (1 : Int32) h3
  )
theorem w_X2_print_j49 (D : va_G) (l : Launch) (hl : l.stackTraces = false) (as : List Value) (h0 : AH) {r : (Int32 ⊕ Nat)} {hF : AH} (x0 : Nat) (x1 : Int32) (x2 : Int32) (x3 : Int32) (x4 : Nat) (x5 : Nat) (x6 : Int32) (s0 : Int32) (h : AH) (e : f_X2_print_j49 x0 x1 x2 x3 x4 x5 x6 s0 h = some (r, hF)) : V (G_X2_print D l as h0 hF ((oX oI) r)) h 49 [(0, .ref x0), (1, .int x1), (2, .int x2), (3, .int x3), (4, .ref x4), (5, .ref x5), (6, .int x6)] [.int s0] := by
  unfold f_X2_print_j49 at e
  refine v_iconst (pc' := 50) (v := 2) hc_X2_print dX2_print_49 rfl rfl ?_
  refine v_aload (pc' := 52) hc_X2_print dX2_print_50 rfl 4 rfl ?_
  refine v_gnI (pc' := 55) hc_X2_print ho_X2_print KX8 2 (Nat.le_of_ble_eq_true rfl) q1134 rfl dX2_print_52 rfl e (fun v1 _ e => ?_)
  rcases bdX_of e with ⟨r2, h3, e4, e⟩ | ⟨zq6, h3, e4, e⟩
  · refine k_SN (pc' := 58) (x := ⟨"BlockPapers", "allow", "(ZII)V"⟩) (n := 3) hc_X2_print ho_X2_print (w_X1_allow D l hl s0 (2 : Int32) v1 h e4) q1090 q1091 q75 q1092 hy_44 ⟨Nat.le_of_ble_eq_true rfl, Nat.le_of_ble_eq_true rfl⟩ rfl rfl (Nat.le_of_ble_eq_true rfl) dX2_print_55 rfl (kU ?_) kN
    refine v_aload (pc' := 60) hc_X2_print dX2_print_58 rfl 5 rfl ?_
    refine v_gnI (pc' := 63) hc_X2_print ho_X2_print KX9 2 (Nat.le_of_ble_eq_true rfl) q1200 rfl dX2_print_60 rfl e (fun v5 _ e => ?_)
    refine v_iload (pc' := 65) hc_X2_print dX2_print_63 rfl 6 rfl ?_
    refine v_icmp_lt (pt := 72) (pf := 68) hc_X2_print dX2_print_65 rfl rfl e (fun _ e => ?_) (fun _ e => ?_)
    · refine v_iconst (pc' := 73) (v := 0) hc_X2_print dX2_print_72 rfl rfl ?_
      exact w_X2_print_j73 D l hl as h0 x0 x1 x2 x3 x4 x5 x6 (0 : Int32) h3 e
    · refine v_iconst (pc' := 69) (v := 1) hc_X2_print dX2_print_68 rfl rfl ?_
      refine v_goto (pt := 73) hc_X2_print dX2_print_69 rfl ?_
      exact w_X2_print_j73 D l hl as h0 x0 x1 x2 x3 x4 x5 x6 (1 : Int32) h3 e
  · refine k_SN (pc' := 58) (x := ⟨"BlockPapers", "allow", "(ZII)V"⟩) (n := 3) hc_X2_print ho_X2_print (w_X1_allow D l hl s0 (2 : Int32) v1 h e4) q1090 q1091 q75 q1092 hy_44 ⟨Nat.le_of_ble_eq_true rfl, Nat.le_of_ble_eq_true rfl⟩ rfl rfl (Nat.le_of_ble_eq_true rfl) dX2_print_55 rfl kM (kX ?_)
    exact v_outA (hp_X2_print _) rfl rfl e
def f_X2_print (x0 : Nat) (x1 : Int32) (x2 : Int32) (x3 : Int32) (h : AH) : Option ((Int32 ⊕ Nat) × AH) :=
  gd (isC h 1 x0) <|
  bdX (f_X2_block x0 x1 h) (fun zq18 h3 =>
    outX h3 zq18
  ) fun r2 h3 =>
  gd (isC h3 1 x0) <|
  bdX (f_X2_ink x0 x2 h3) (fun zq17 h7 =>
    outX h7 zq17
  ) fun r6 h7 =>
  bd2 (f_X1_inRange x3 (100 : Int32) (1000 : Int32) h7) fun r9 h10 =>
  bdX (f_X1_require r9 h10) (fun zq16 h13 =>
    outX h13 zq16
  ) fun r12 h13 =>
  bd (gtI h13 7 r2 2) fun v15 =>
  if (100 : Int32) ≤ v15 then (
    f_X2_print_j49 x0 x1 x2 x3 r2 r6 ((1 : Int32) + (x3 / (20 : Int32))) (0 : Int32) h13
  ) else (
    f_X2_print_j49 x0 x1 x2 x3 r2 r6 ((1 : Int32) + (x3 / (20 : Int32))) (1 : Int32) h13
  )
theorem v_X2_print (D : va_G) (l : Launch) (hl : l.stackTraces = false) (as : List Value) (h0 : AH) {r : (Int32 ⊕ Nat)} {hF : AH} (x0 : Nat) (x1 : Int32) (x2 : Int32) (x3 : Int32) (h : AH) (e : f_X2_print x0 x1 x2 x3 h = some (r, hF)) : V (G_X2_print D l as h0 hF ((oX oI) r)) h 0 [(0, .ref x0), (1, .int x1), (2, .int x2), (3, .int x3)] [] := by
  unfold f_X2_print at e
  refine v_aload_n (pc' := 1) hc_X2_print dX2_print_0 rfl rfl 0 rfl ?_
  refine v_iload_n (pc' := 2) hc_X2_print dX2_print_1 rfl rfl 1 rfl ?_
  obtain ⟨c1, e⟩ := gd_of e
  rcases bdX_of e with ⟨r2, h3, e4, e⟩ | ⟨zq18, h3, e4, e⟩
  · refine k_V (pc' := 5) (ci := 1) (n := 1) hc_X2_print ho_X2_print rfl c1 (w_X2_block D l hl x0 x1 h e4) (wA_l q1147) q1148 (wA_l q1149) q76 q1150 hy_49 ⟨Nat.le_of_ble_eq_true rfl, Nat.le_of_ble_eq_true rfl⟩ rfl rfl (Nat.le_of_ble_eq_true rfl) dX2_print_2 rfl (kS ?_) kN
    refine v_astore (pc' := 7) (lv' := [(4, .ref r2), (0, .ref x0), (1, .int x1), (2, .int x2), (3, .int x3)]) hc_X2_print dX2_print_5 rfl (Nat.le_of_ble_eq_true rfl) rfl ?_
    refine v_aload_n (pc' := 8) hc_X2_print dX2_print_7 rfl rfl 1 rfl ?_
    refine v_iload_n (pc' := 9) hc_X2_print dX2_print_8 rfl rfl 3 rfl ?_
    obtain ⟨c5, e⟩ := gd_of e
    rcases bdX_of e with ⟨r6, h7, e8, e⟩ | ⟨zq17, h7, e8, e⟩
    · refine k_V (pc' := 12) (ci := 1) (n := 1) hc_X2_print ho_X2_print rfl c5 (w_X2_ink D l hl x0 x2 h3 e8) (wA_l q1213) q1214 (wA_l q1215) q76 q1216 hy_55 ⟨Nat.le_of_ble_eq_true rfl, Nat.le_of_ble_eq_true rfl⟩ rfl rfl (Nat.le_of_ble_eq_true rfl) dX2_print_9 rfl (kS ?_) kN
      refine v_astore (pc' := 14) (lv' := [(5, .ref r6), (4, .ref r2), (0, .ref x0), (1, .int x1), (2, .int x2), (3, .int x3)]) hc_X2_print dX2_print_12 rfl (Nat.le_of_ble_eq_true rfl) rfl ?_
      refine v_iload_n (pc' := 15) hc_X2_print dX2_print_14 rfl rfl 5 rfl ?_
      refine v_bipush (pc' := 17) (v := 100) hc_X2_print dX2_print_15 rfl rfl ?_
      refine v_sipush (pc' := 20) (v := 1000) hc_X2_print dX2_print_17 rfl rfl ?_
      obtain ⟨r9, h10, e11, e⟩ := bd2_of e
      refine k_SN (pc' := 23) (x := ⟨"BlockPapers", "inRange", "(III)Z"⟩) (n := 3) hc_X2_print ho_X2_print (w_X1_inRange D l hl x3 (100 : Int32) (1000 : Int32) h7 e11) q1088 q267 q75 q268 hy_39 ⟨Nat.le_of_ble_eq_true rfl, Nat.le_of_ble_eq_true rfl⟩ rfl rfl (Nat.le_of_ble_eq_true rfl) dX2_print_20 rfl (kS ?_) kN
      rcases bdX_of e with ⟨r12, h13, e14, e⟩ | ⟨zq16, h13, e14, e⟩
      · refine k_SN (pc' := 26) (x := ⟨"BlockPapers", "require", "(Z)V"⟩) (n := 1) hc_X2_print ho_X2_print (w_X1_require D l hl r9 h10 e14) q1089 q270 q75 q271 hy_40 ⟨Nat.le_of_ble_eq_true rfl, Nat.le_of_ble_eq_true rfl⟩ rfl rfl (Nat.le_of_ble_eq_true rfl) dX2_print_23 rfl (kU ?_) kN
        refine v_iconst (pc' := 27) (v := 1) hc_X2_print dX2_print_26 rfl rfl ?_
        refine v_iload_n (pc' := 28) hc_X2_print dX2_print_27 rfl rfl 5 rfl ?_
        refine v_bipush (pc' := 30) (v := 20) hc_X2_print dX2_print_28 rfl rfl ?_
        refine v_idiv (pc' := 31) hc_X2_print dX2_print_30 rfl (by decide) ?_
        refine v_iadd (pc' := 32) hc_X2_print dX2_print_31 rfl ?_
        refine v_istore (pc' := 34) (lv' := [(6, .int ((1 : Int32) + (x3 / (20 : Int32)))), (5, .ref r6), (4, .ref r2), (0, .ref x0), (1, .int x1), (2, .int x2), (3, .int x3)]) hc_X2_print dX2_print_32 rfl (Nat.le_of_ble_eq_true rfl) rfl ?_
        refine v_aload (pc' := 36) hc_X2_print dX2_print_34 rfl 2 rfl ?_
        refine v_gnI (pc' := 39) hc_X2_print ho_X2_print KX8 2 (Nat.le_of_ble_eq_true rfl) q1134 rfl dX2_print_36 rfl e (fun v15 _ e => ?_)
        refine v_bipush (pc' := 41) (v := 100) hc_X2_print dX2_print_39 rfl rfl ?_
        refine v_icmp_ge (pt := 48) (pf := 44) hc_X2_print dX2_print_41 rfl rfl e (fun _ e => ?_) (fun _ e => ?_)
        · refine v_iconst (pc' := 49) (v := 0) hc_X2_print dX2_print_48 rfl rfl ?_
          refine v_pick [3, 4, 5, 6, 2, 1, 0] rfl ?_
          exact w_X2_print_j49 D l hl as h0 x0 x1 x2 x3 r2 r6 ((1 : Int32) + (x3 / (20 : Int32))) (0 : Int32) h13 e
        · refine v_iconst (pc' := 45) (v := 1) hc_X2_print dX2_print_44 rfl rfl ?_
          refine v_goto (pt := 49) hc_X2_print dX2_print_45 rfl ?_
          refine v_pick [3, 4, 5, 6, 2, 1, 0] rfl ?_
          exact w_X2_print_j49 D l hl as h0 x0 x1 x2 x3 r2 r6 ((1 : Int32) + (x3 / (20 : Int32))) (1 : Int32) h13 e
      · refine k_SN (pc' := 26) (x := ⟨"BlockPapers", "require", "(Z)V"⟩) (n := 1) hc_X2_print ho_X2_print (w_X1_require D l hl r9 h10 e14) q1089 q270 q75 q271 hy_40 ⟨Nat.le_of_ble_eq_true rfl, Nat.le_of_ble_eq_true rfl⟩ rfl rfl (Nat.le_of_ble_eq_true rfl) dX2_print_23 rfl kM (kX ?_)
        exact v_outA (hp_X2_print _) rfl rfl e
    · refine k_V (pc' := 12) (ci := 1) (n := 1) hc_X2_print ho_X2_print rfl c5 (w_X2_ink D l hl x0 x2 h3 e8) (wA_l q1213) q1214 (wA_l q1215) q76 q1216 hy_55 ⟨Nat.le_of_ble_eq_true rfl, Nat.le_of_ble_eq_true rfl⟩ rfl rfl (Nat.le_of_ble_eq_true rfl) dX2_print_9 rfl kM (kX ?_)
      exact v_outA (hp_X2_print _) rfl rfl e
  · refine k_V (pc' := 5) (ci := 1) (n := 1) hc_X2_print ho_X2_print rfl c1 (w_X2_block D l hl x0 x1 h e4) (wA_l q1147) q1148 (wA_l q1149) q76 q1150 hy_49 ⟨Nat.le_of_ble_eq_true rfl, Nat.le_of_ble_eq_true rfl⟩ rfl rfl (Nat.le_of_ble_eq_true rfl) dX2_print_2 rfl kM (kX ?_)
    exact v_outA (hp_X2_print _) rfl rfl e
theorem w_X2_print (D : va_G) (l : Launch) (hl : l.stackTraces = false) (x0 : Nat) (x1 : Int32) (x2 : Int32) (x3 : Int32) (h : AH) {r : (Int32 ⊕ Nat)} {hF : AH} (e : f_X2_print x0 x1 x2 x3 h = some (r, hF)) : MetV D l yX2_print (Cond.code yX2_print cX2_print 9 (Option.some .int)) 8 200 [.ref x0, .int x1, .int x2, .int x3] h hF ((oX oI) r) :=
  met_ofF (by decide +kernel) hl (Nat.le_of_ble_eq_true rfl) rfl (v_X2_print D l hl [.ref x0, .int x1, .int x2, .int x3] h x0 x1 x2 x3 h e)
/-! BlockPapers$Workshop.roll(I)LBlockPapers$Roll;  -/
abbrev G_X2_roll (D : va_G) (l : Launch) (as : List Value) (h0 hF : AH) (o : Out) : CT := (D, l, (yX2_roll.cls, yX2_roll, cX2_roll, 2, (Option.some (.object "BlockPapers$Roll")), 7, 112, []), as, h0, hF, o)
theorem hc_X2_roll {D : va_G} {l : Launch} {as : List Value} {h0 hF : AH} {o : Out} : gC (G_X2_roll D l as h0 hF o) = cX2_roll := rfl
theorem ho_X2_roll {D : va_G} {l : Launch} {as : List Value} {h0 hF : AH} {o : Out} : gO (G_X2_roll D l as h0 hF o) = "BlockPapers$Workshop" := rfl
theorem hp_X2_roll {D : va_G} {l : Launch} {as : List Value} {h0 hF : AH} {o : Out} (pc : Nat) : ∀ z ∈ tableOf (gHd (G_X2_roll D l as h0 hF o)), covers z pc = false := hpN
def f_X2_roll (x0 : Nat) (x1 : Int32) (h : AH) : Option ((Nat ⊕ Nat) × AH) :=
  bd (gtR h 1 x0 2) fun v1 =>
  gd (isC h 16 v1) <|
  bd2 (f_J2_size v1 h) fun r3 h4 =>
  bd2 (f_X1_inRange x1 (0 : Int32) (r3 - (1 : Int32)) h4) fun r6 h7 =>
  bdX (f_X1_requireIndex r6 h7) (fun zq18 h10 =>
    outX h10 zq18
  ) fun r9 h10 =>
  bd (gtR h10 1 x0 2) fun v12 =>
  gd (isC h10 16 v12) <|
  bd2 (f_J2_get v12 x1 h10) fun r14 h15 =>
  gd (isC h15 9 r14) <|
  some (.inl r14, h15)
theorem v_X2_roll (D : va_G) (l : Launch) (hl : l.stackTraces = false) (as : List Value) (h0 : AH) {r : (Nat ⊕ Nat)} {hF : AH} (x0 : Nat) (x1 : Int32) (h : AH) (e : f_X2_roll x0 x1 h = some (r, hF)) : V (G_X2_roll D l as h0 hF ((oX oR) r)) h 0 [(0, .ref x0), (1, .int x1)] [] := by
  unfold f_X2_roll at e
  refine v_iload_n (pc' := 1) hc_X2_roll dX2_roll_0 rfl rfl 1 rfl ?_
  refine v_iconst (pc' := 2) (v := 0) hc_X2_roll dX2_roll_1 rfl rfl ?_
  refine v_aload_n (pc' := 3) hc_X2_roll dX2_roll_2 rfl rfl 0 rfl ?_
  refine v_gfR (pc' := 6) hc_X2_roll ho_X2_roll KX2 2 (Nat.le_of_ble_eq_true rfl) q169 (Or.inl rfl) dX2_roll_3 rfl e (fun v1 _ e => ?_)
  obtain ⟨c2, e⟩ := gd_of e
  obtain ⟨r3, h4, e5, e⟩ := bd2_of e
  refine k_F (pc' := 11) (x := ⟨"java/util/List", "size", "()I"⟩) (y := ⟨"java/util/ArrayList", "size", "()I"⟩) (ci := 16) (n := 0) hc_X2_roll ho_X2_roll rfl c2 (w_J2_size D l hl v1 h e5) (wA_l q513) (by decide +kernel) q348 q350 q79 q352 hy_19 ⟨Nat.le_of_ble_eq_true rfl, Nat.le_of_ble_eq_true rfl⟩ rfl rfl (Nat.le_of_ble_eq_true rfl) dX2_roll_6 rfl (kS ?_) kN
  refine v_iconst (pc' := 12) (v := 1) hc_X2_roll dX2_roll_11 rfl rfl ?_
  refine v_isub (pc' := 13) hc_X2_roll dX2_roll_12 rfl ?_
  obtain ⟨r6, h7, e8, e⟩ := bd2_of e
  refine k_SN (pc' := 16) (x := ⟨"BlockPapers", "inRange", "(III)Z"⟩) (n := 3) hc_X2_roll ho_X2_roll (w_X1_inRange D l hl x1 (0 : Int32) (r3 - (1 : Int32)) h4 e8) q1088 q267 q75 q268 hy_39 ⟨Nat.le_of_ble_eq_true rfl, Nat.le_of_ble_eq_true rfl⟩ rfl rfl (Nat.le_of_ble_eq_true rfl) dX2_roll_13 rfl (kS ?_) kN
  rcases bdX_of e with ⟨r9, h10, e11, e⟩ | ⟨zq18, h10, e11, e⟩
  · refine k_SN (pc' := 19) (x := ⟨"BlockPapers", "requireIndex", "(Z)V"⟩) (n := 1) hc_X2_roll ho_X2_roll (w_X1_requireIndex D l hl r6 h7 e11) q1151 q1152 q75 q1153 hy_48 ⟨Nat.le_of_ble_eq_true rfl, Nat.le_of_ble_eq_true rfl⟩ rfl rfl (Nat.le_of_ble_eq_true rfl) dX2_roll_16 rfl (kU ?_) kN
    refine v_aload_n (pc' := 20) hc_X2_roll dX2_roll_19 rfl rfl 0 rfl ?_
    refine v_gfR (pc' := 23) hc_X2_roll ho_X2_roll KX2 2 (Nat.le_of_ble_eq_true rfl) q169 (Or.inl rfl) dX2_roll_20 rfl e (fun v12 _ e => ?_)
    refine v_iload_n (pc' := 24) hc_X2_roll dX2_roll_23 rfl rfl 1 rfl ?_
    obtain ⟨c13, e⟩ := gd_of e
    obtain ⟨r14, h15, e16, e⟩ := bd2_of e
    refine k_F (pc' := 29) (x := ⟨"java/util/List", "get", "(I)Ljava/lang/Object;"⟩) (y := ⟨"java/util/ArrayList", "get", "(I)Ljava/lang/Object;"⟩) (ci := 16) (n := 1) hc_X2_roll ho_X2_roll rfl c13 (w_J2_get D l hl v12 x1 h10 e16) (wA_l q515) (by decide +kernel) q401 q403 q79 q405 hy_23 ⟨Nat.le_of_ble_eq_true rfl, Nat.le_of_ble_eq_true rfl⟩ rfl rfl (Nat.le_of_ble_eq_true rfl) dX2_roll_24 rfl (kS ?_) kN
    obtain ⟨c17, e⟩ := gd_of e
    refine v_cast (pc' := 32) (ci := 9) hc_X2_roll ho_X2_roll rfl q516 (Or.inl rfl) dX2_roll_29 rfl c17 ?_
    obtain ⟨rfl, rfl⟩ := ret_of e
    exact v_aret hc_X2_roll rfl (Or.inl ⟨_, rfl⟩) (Or.inr ⟨_, rfl⟩) dX2_roll_32 rfl rfl
  · refine k_SN (pc' := 19) (x := ⟨"BlockPapers", "requireIndex", "(Z)V"⟩) (n := 1) hc_X2_roll ho_X2_roll (w_X1_requireIndex D l hl r6 h7 e11) q1151 q1152 q75 q1153 hy_48 ⟨Nat.le_of_ble_eq_true rfl, Nat.le_of_ble_eq_true rfl⟩ rfl rfl (Nat.le_of_ble_eq_true rfl) dX2_roll_16 rfl kM (kX ?_)
    exact v_outA (hp_X2_roll _) rfl rfl e
theorem w_X2_roll (D : va_G) (l : Launch) (hl : l.stackTraces = false) (x0 : Nat) (x1 : Int32) (h : AH) {r : (Nat ⊕ Nat)} {hF : AH} (e : f_X2_roll x0 x1 h = some (r, hF)) : MetV D l yX2_roll (Cond.code yX2_roll cX2_roll 2 (Option.some (.object "BlockPapers$Roll"))) 7 112 [.ref x0, .int x1] h hF ((oX oR) r) :=
  met_ofF (by decide +kernel) hl (Nat.le_of_ble_eq_true rfl) rfl (v_X2_roll D l hl [.ref x0, .int x1] h x0 x1 h e)
/-! BlockPapers$Workshop.latest(I)I  -/
abbrev G_X2_latest (D : va_G) (l : Launch) (as : List Value) (h0 hF : AH) (o : Out) : CT := (D, l, (yX2_latest.cls, yX2_latest, cX2_latest, 4, (Option.some .int), 4, 112, []), as, h0, hF, o)
theorem hc_X2_latest {D : va_G} {l : Launch} {as : List Value} {h0 hF : AH} {o : Out} : gC (G_X2_latest D l as h0 hF o) = cX2_latest := rfl
theorem ho_X2_latest {D : va_G} {l : Launch} {as : List Value} {h0 hF : AH} {o : Out} : gO (G_X2_latest D l as h0 hF o) = "BlockPapers$Workshop" := rfl
theorem hp_X2_latest {D : va_G} {l : Launch} {as : List Value} {h0 hF : AH} {o : Out} (pc : Nat) : ∀ z ∈ tableOf (gHd (G_X2_latest D l as h0 hF o)), covers z pc = false := hpN
def fb_X2_latest_l4 (rec : Nat → Int32 → Int32 → Int32 → AH → Option (Int32 × AH)) (x0 : Nat) (x1 : Int32) (x2 : Int32) (x3 : Int32) (h : AH) : Option (Int32 × AH) :=
  bd (gtR h 1 x0 1) fun v1 =>
  gd (isC h 16 v1) <|
  bd2 (f_J2_size v1 h) fun r3 h4 =>
  if r3 ≤ x3 then (
    some (x2, h4)
  ) else (
    bd (gtR h4 1 x0 1) fun v6 =>
    gd (isC h4 16 v6) <|
    bd2 (f_J2_get v6 x3 h4) fun r8 h9 =>
    gd (isC h9 8 r8) <|
    bd (gtI h9 8 r8 0) fun v12 =>
    if v12 = x1 then (
      rec x0 x1 x3 (x3 + 1) h9
    ) else (
      rec x0 x1 x2 (x3 + 1) h9
    )
  )
def f_X2_latest_l4 : Nat → Nat → Int32 → Int32 → Int32 → AH → Option (Int32 × AH)
  | 0 => fun _ _ _ _ _ => none
  | n + 1 => fb_X2_latest_l4 (f_X2_latest_l4 n) 
theorem w_X2_latest_l4 (D : va_G) (l : Launch) (hl : l.stackTraces = false) (as : List Value) (h0 : AH) {r : Int32} {hF : AH} : ∀ (n : Nat) (x0 : Nat) (x1 : Int32) (x2 : Int32) (x3 : Int32) (h : AH), f_X2_latest_l4 n x0 x1 x2 x3 h = some (r, hF) → V (G_X2_latest D l as h0 hF (oI r)) h 4 [(0, .ref x0), (1, .int x1), (2, .int x2), (3, .int x3)] [] := by
  intro n; induction n with
  | zero => intro x0 x1 x2 x3 h e; exact absurd (show (none : Option (Int32 × AH)) = some _ from e) (fun z => nomatch z)
  | succ n IH =>
    intro x0 x1 x2 x3 h e
    have e : fb_X2_latest_l4 (f_X2_latest_l4 n) x0 x1 x2 x3 h = some (r, hF) := e
    unfold fb_X2_latest_l4 at e
    refine v_iload_n (pc' := 5) hc_X2_latest dX2_latest_4 rfl rfl 3 rfl ?_
    refine v_aload_n (pc' := 6) hc_X2_latest dX2_latest_5 rfl rfl 0 rfl ?_
    refine v_gfR (pc' := 9) hc_X2_latest ho_X2_latest KX2 1 (Nat.le_of_ble_eq_true rfl) q166 (Or.inl rfl) dX2_latest_6 rfl e (fun v1 _ e => ?_)
    obtain ⟨c2, e⟩ := gd_of e
    obtain ⟨r3, h4, e5, e⟩ := bd2_of e
    refine k_F (pc' := 14) (x := ⟨"java/util/List", "size", "()I"⟩) (y := ⟨"java/util/ArrayList", "size", "()I"⟩) (ci := 16) (n := 0) hc_X2_latest ho_X2_latest rfl c2 (w_J2_size D l hl v1 h e5) (wA_l q513) (by decide +kernel) q348 q350 q79 q352 hy_19 ⟨Nat.le_of_ble_eq_true rfl, Nat.le_of_ble_eq_true rfl⟩ rfl rfl (Nat.le_of_ble_eq_true rfl) dX2_latest_9 rfl (kS ?_) kN
    refine v_icmp_ge (pt := 49) (pf := 17) hc_X2_latest dX2_latest_14 rfl rfl e (fun _ e => ?_) (fun _ e => ?_)
    · refine v_iload_n (pc' := 50) hc_X2_latest dX2_latest_49 rfl rfl 2 rfl ?_
      obtain ⟨rfl, rfl⟩ := ret_of e
      exact v_iret hc_X2_latest rfl dX2_latest_50 rfl rfl
    · refine v_aload_n (pc' := 18) hc_X2_latest dX2_latest_17 rfl rfl 0 rfl ?_
      refine v_gfR (pc' := 21) hc_X2_latest ho_X2_latest KX2 1 (Nat.le_of_ble_eq_true rfl) q166 (Or.inl rfl) dX2_latest_18 rfl e (fun v6 _ e => ?_)
      refine v_iload_n (pc' := 22) hc_X2_latest dX2_latest_21 rfl rfl 3 rfl ?_
      obtain ⟨c7, e⟩ := gd_of e
      obtain ⟨r8, h9, e10, e⟩ := bd2_of e
      refine k_F (pc' := 27) (x := ⟨"java/util/List", "get", "(I)Ljava/lang/Object;"⟩) (y := ⟨"java/util/ArrayList", "get", "(I)Ljava/lang/Object;"⟩) (ci := 16) (n := 1) hc_X2_latest ho_X2_latest rfl c7 (w_J2_get D l hl v6 x3 h4 e10) (wA_l q515) (by decide +kernel) q401 q403 q79 q405 hy_23 ⟨Nat.le_of_ble_eq_true rfl, Nat.le_of_ble_eq_true rfl⟩ rfl rfl (Nat.le_of_ble_eq_true rfl) dX2_latest_22 rfl (kS ?_) kN
      obtain ⟨c11, e⟩ := gd_of e
      refine v_cast (pc' := 30) (ci := 8) hc_X2_latest ho_X2_latest rfl q1187 (Or.inl rfl) dX2_latest_27 rfl c11 ?_
      refine v_gnI (pc' := 33) hc_X2_latest ho_X2_latest KX9 0 (Nat.le_of_ble_eq_true rfl) q1194 rfl dX2_latest_30 rfl e (fun v12 _ e => ?_)
      refine v_iload_n (pc' := 34) hc_X2_latest dX2_latest_33 rfl rfl 1 rfl ?_
      refine v_icmp_ne (pt := 41) (pf := 37) hc_X2_latest dX2_latest_34 rfl rfl e (fun _ e => ?_) (fun _ e => ?_)
      · refine v_iload_n (pc' := 38) hc_X2_latest dX2_latest_37 rfl rfl 3 rfl ?_
        refine v_goto (pt := 42) hc_X2_latest dX2_latest_38 rfl ?_
        refine v_istore_n (pc' := 43) (lv' := [(2, .int x3), (0, .ref x0), (1, .int x1), (3, .int x3)]) hc_X2_latest dX2_latest_42 rfl rfl (Nat.le_of_ble_eq_true rfl) rfl ?_
        refine v_iinc (pc' := 46) (lv' := [(3, .int (x3 + 1)), (2, .int x3), (0, .ref x0), (1, .int x1)]) (v := x3 + 1) hc_X2_latest dX2_latest_43 rfl 3 rfl rfl (Nat.le_of_ble_eq_true rfl) rfl ?_
        refine v_goto (pt := 4) hc_X2_latest dX2_latest_46 rfl ?_
        refine v_pick [2, 3, 1, 0] rfl ?_
        exact IH x0 x1 x3 (x3 + 1) h9 e
      · refine v_iload_n (pc' := 42) hc_X2_latest dX2_latest_41 rfl rfl 2 rfl ?_
        refine v_istore_n (pc' := 43) (lv' := [(2, .int x2), (0, .ref x0), (1, .int x1), (3, .int x3)]) hc_X2_latest dX2_latest_42 rfl rfl (Nat.le_of_ble_eq_true rfl) rfl ?_
        refine v_iinc (pc' := 46) (lv' := [(3, .int (x3 + 1)), (2, .int x2), (0, .ref x0), (1, .int x1)]) (v := x3 + 1) hc_X2_latest dX2_latest_43 rfl 3 rfl rfl (Nat.le_of_ble_eq_true rfl) rfl ?_
        refine v_goto (pt := 4) hc_X2_latest dX2_latest_46 rfl ?_
        refine v_pick [2, 3, 1, 0] rfl ?_
        exact IH x0 x1 x2 (x3 + 1) h9 e
def f_X2_latest (x0 : Nat) (x1 : Int32) (h : AH) : Option (Int32 × AH) :=
  f_X2_latest_l4 NN x0 x1 (-1 : Int32) (0 : Int32) h
theorem v_X2_latest (D : va_G) (l : Launch) (hl : l.stackTraces = false) (as : List Value) (h0 : AH) {r : Int32} {hF : AH} (x0 : Nat) (x1 : Int32) (h : AH) (e : f_X2_latest x0 x1 h = some (r, hF)) : V (G_X2_latest D l as h0 hF (oI r)) h 0 [(0, .ref x0), (1, .int x1)] [] := by
  unfold f_X2_latest at e
  refine v_iconst (pc' := 1) (v := (-1)) hc_X2_latest dX2_latest_0 rfl rfl ?_
  refine v_istore_n (pc' := 2) (lv' := [(2, .int (-1 : Int32)), (0, .ref x0), (1, .int x1)]) hc_X2_latest dX2_latest_1 rfl rfl (Nat.le_of_ble_eq_true rfl) rfl ?_
  refine v_iconst (pc' := 3) (v := 0) hc_X2_latest dX2_latest_2 rfl rfl ?_
  refine v_istore_n (pc' := 4) (lv' := [(3, .int (0 : Int32)), (2, .int (-1 : Int32)), (0, .ref x0), (1, .int x1)]) hc_X2_latest dX2_latest_3 rfl rfl (Nat.le_of_ble_eq_true rfl) rfl ?_
  refine v_pick [2, 3, 1, 0] rfl ?_
  exact w_X2_latest_l4 D l hl as h0 NN x0 x1 (-1 : Int32) (0 : Int32) h e
theorem w_X2_latest (D : va_G) (l : Launch) (hl : l.stackTraces = false) (x0 : Nat) (x1 : Int32) (h : AH) {r : Int32} {hF : AH} (e : f_X2_latest x0 x1 h = some (r, hF)) : MetV D l yX2_latest (Cond.code yX2_latest cX2_latest 4 (Option.some .int)) 4 112 [.ref x0, .int x1] h hF (oI r) :=
  met_ofF (by decide +kernel) hl (Nat.le_of_ble_eq_true rfl) rfl (v_X2_latest D l hl [.ref x0, .int x1] h x0 x1 h e)
/-! BlockPapers$Roll.back()LBlockPapers$Roll;  -/
abbrev G_X10_back (D : va_G) (l : Launch) (as : List Value) (h0 hF : AH) (o : Out) : CT := (D, l, (yX10_back.cls, yX10_back, cX10_back, 1, (Option.some (.object "BlockPapers$Roll")), 2, 75, []), as, h0, hF, o)
theorem hc_X10_back {D : va_G} {l : Launch} {as : List Value} {h0 hF : AH} {o : Out} : gC (G_X10_back D l as h0 hF o) = cX10_back := rfl
theorem ho_X10_back {D : va_G} {l : Launch} {as : List Value} {h0 hF : AH} {o : Out} : gO (G_X10_back D l as h0 hF o) = "BlockPapers$Roll" := rfl
theorem hp_X10_back {D : va_G} {l : Launch} {as : List Value} {h0 hF : AH} {o : Out} (pc : Nat) : ∀ z ∈ tableOf (gHd (G_X10_back D l as h0 hF o)), covers z pc = false := hpN
def f_X10_back (x0 : Nat) (h : AH) : Option (Nat × AH) :=
  bd2 (nwX h 9 7 fsX10) fun a2 h1 =>
  bd (gtI h1 9 x0 0) fun v3 =>
  bd (gtI h1 9 x0 1) fun v4 =>
  bd (gtI h1 9 x0 2) fun v5 =>
  bd (gtI h1 9 x0 3) fun v6 =>
  bd (gtI h1 9 x0 4) fun v7 =>
  bd (gtI h1 9 x0 5) fun v8 =>
  bd2 (f_X10_init_2 a2 v3 v4 v5 v6 v7 v8 (1 : Int32) h1) fun r9 h10 =>
  some (a2, h10)
theorem v_X10_back (D : va_G) (l : Launch) (hl : l.stackTraces = false) (as : List Value) (h0 : AH) {r : Nat} {hF : AH} (x0 : Nat) (h : AH) (e : f_X10_back x0 h = some (r, hF)) : V (G_X10_back D l as h0 hF (oR r)) h 0 [(0, .ref x0)] [] := by
  unfold f_X10_back at e
  refine v_newX (pc' := 3) hc_X10_back ho_X10_back KX10 q1300 q1232 q109 rfl dfX10 dX10_back_0 rfl e (fun a2 h1 _ e => ?_)
  refine v_dup (pc' := 4) hc_X10_back dX10_back_3 rfl rfl ?_
  refine v_aload_n (pc' := 5) hc_X10_back dX10_back_4 rfl rfl 0 rfl ?_
  refine v_gfI (pc' := 8) hc_X10_back ho_X10_back KX10 0 (Nat.le_of_ble_eq_true rfl) q1240 (Or.inl rfl) dX10_back_5 rfl e (fun v3 _ e => ?_)
  refine v_aload_n (pc' := 9) hc_X10_back dX10_back_8 rfl rfl 0 rfl ?_
  refine v_gfI (pc' := 12) hc_X10_back ho_X10_back KX10 1 (Nat.le_of_ble_eq_true rfl) q1243 (Or.inl rfl) dX10_back_9 rfl e (fun v4 _ e => ?_)
  refine v_aload_n (pc' := 13) hc_X10_back dX10_back_12 rfl rfl 0 rfl ?_
  refine v_gfI (pc' := 16) hc_X10_back ho_X10_back KX10 2 (Nat.le_of_ble_eq_true rfl) q1245 (Or.inl rfl) dX10_back_13 rfl e (fun v5 _ e => ?_)
  refine v_aload_n (pc' := 17) hc_X10_back dX10_back_16 rfl rfl 0 rfl ?_
  refine v_gfI (pc' := 20) hc_X10_back ho_X10_back KX10 3 (Nat.le_of_ble_eq_true rfl) q1248 (Or.inl rfl) dX10_back_17 rfl e (fun v6 _ e => ?_)
  refine v_aload_n (pc' := 21) hc_X10_back dX10_back_20 rfl rfl 0 rfl ?_
  refine v_gfI (pc' := 24) hc_X10_back ho_X10_back KX10 4 (Nat.le_of_ble_eq_true rfl) q1251 (Or.inl rfl) dX10_back_21 rfl e (fun v7 _ e => ?_)
  refine v_aload_n (pc' := 25) hc_X10_back dX10_back_24 rfl rfl 0 rfl ?_
  refine v_gfI (pc' := 28) hc_X10_back ho_X10_back KX10 5 (Nat.le_of_ble_eq_true rfl) q1255 (Or.inl rfl) dX10_back_25 rfl e (fun v8 _ e => ?_)
  refine v_iconst (pc' := 29) (v := 1) hc_X10_back dX10_back_28 rfl rfl ?_
  obtain ⟨r9, h10, e11, e⟩ := bd2_of e
  refine k_I (pc' := 32) (n := 7) hc_X10_back ho_X10_back (w_X10_init_2 D l hl a2 v3 v4 v5 v6 v7 v8 (1 : Int32) h1 e11) (wA_l q1236) q1237 q109 q1238 rfl hy_59 ⟨Nat.le_of_ble_eq_true rfl, Nat.le_of_ble_eq_true rfl⟩ rfl rfl (Nat.le_of_ble_eq_true rfl) dX10_back_29 rfl (kU ?_) kN
  obtain ⟨rfl, rfl⟩ := ret_of e
  exact v_aret hc_X10_back rfl (Or.inl ⟨_, rfl⟩) (Or.inr ⟨_, rfl⟩) dX10_back_32 rfl rfl
theorem w_X10_back (D : va_G) (l : Launch) (hl : l.stackTraces = false) (x0 : Nat) (h : AH) {r : Nat} {hF : AH} (e : f_X10_back x0 h = some (r, hF)) : MetV D l yX10_back (Cond.code yX10_back cX10_back 1 (Option.some (.object "BlockPapers$Roll"))) 2 75 [.ref x0] h hF (oR r) :=
  met_ofF (by decide +kernel) hl (Nat.le_of_ble_eq_true rfl) rfl (v_X10_back D l hl [.ref x0] h x0 h e)
/-! BlockPapers$Workshop.giveBack(I)I  -/
abbrev G_X2_giveBack (D : va_G) (l : Launch) (as : List Value) (h0 hF : AH) (o : Out) : CT := (D, l, (yX2_giveBack.cls, yX2_giveBack, cX2_giveBack, 5, (Option.some .int), 8, 140, []), as, h0, hF, o)
theorem hc_X2_giveBack {D : va_G} {l : Launch} {as : List Value} {h0 hF : AH} {o : Out} : gC (G_X2_giveBack D l as h0 hF o) = cX2_giveBack := rfl
theorem ho_X2_giveBack {D : va_G} {l : Launch} {as : List Value} {h0 hF : AH} {o : Out} : gO (G_X2_giveBack D l as h0 hF o) = "BlockPapers$Workshop" := rfl
theorem hp_X2_giveBack {D : va_G} {l : Launch} {as : List Value} {h0 hF : AH} {o : Out} (pc : Nat) : ∀ z ∈ tableOf (gHd (G_X2_giveBack D l as h0 hF o)), covers z pc = false := hpN
def f_X2_giveBack_j86 (x0 : Nat) (x1 : Int32) (x2 : Nat) (x3 : Int32) (s0 : Int32) (h : AH) : Option ((Int32 ⊕ Nat) × AH) :=
  bdX (f_X1_allow s0 (12 : Int32) x3 h) (fun zq15 h2 =>
    outX h2 zq15
  ) fun r1 h2 =>
  bd (gtR h2 1 x0 2) fun v4 =>
  gd (isC h2 9 x2) <|
  bd2 (f_X10_back x2 h2) fun r6 h7 =>
  gd (isC h7 16 v4) <|
  bd2 (f_J2_set v4 x1 r6 h7) fun r10 h11 =>
  gd (isC h11 9 r10) <|
  bd (gtI h11 9 x2 4) fun v14 =>
  some (.inl v14, h11)
theorem w_X2_giveBack_j86 (D : va_G) (l : Launch) (hl : l.stackTraces = false) (as : List Value) (h0 : AH) {r : (Int32 ⊕ Nat)} {hF : AH} (x0 : Nat) (x1 : Int32) (x2 : Nat) (x3 : Int32) (s0 : Int32) (h : AH) (e : f_X2_giveBack_j86 x0 x1 x2 x3 s0 h = some (r, hF)) : V (G_X2_giveBack D l as h0 hF ((oX oI) r)) h 86 [(0, .ref x0), (1, .int x1), (2, .ref x2), (3, .int x3)] [.int s0] := by
  unfold f_X2_giveBack_j86 at e
  refine v_bipush (pc' := 88) (v := 12) hc_X2_giveBack dX2_giveBack_86 rfl rfl ?_
  refine v_iload_n (pc' := 89) hc_X2_giveBack dX2_giveBack_88 rfl rfl 3 rfl ?_
  rcases bdX_of e with ⟨r1, h2, e3, e⟩ | ⟨zq15, h2, e3, e⟩
  · refine k_SN (pc' := 92) (x := ⟨"BlockPapers", "allow", "(ZII)V"⟩) (n := 3) hc_X2_giveBack ho_X2_giveBack (w_X1_allow D l hl s0 (12 : Int32) x3 h e3) q1090 q1091 q75 q1092 hy_44 ⟨Nat.le_of_ble_eq_true rfl, Nat.le_of_ble_eq_true rfl⟩ rfl rfl (Nat.le_of_ble_eq_true rfl) dX2_giveBack_89 rfl (kU ?_) kN
    refine v_aload_n (pc' := 93) hc_X2_giveBack dX2_giveBack_92 rfl rfl 0 rfl ?_
    refine v_gfR (pc' := 96) hc_X2_giveBack ho_X2_giveBack KX2 2 (Nat.le_of_ble_eq_true rfl) q169 (Or.inl rfl) dX2_giveBack_93 rfl e (fun v4 _ e => ?_)
    refine v_iload_n (pc' := 97) hc_X2_giveBack dX2_giveBack_96 rfl rfl 1 rfl ?_
    refine v_aload_n (pc' := 98) hc_X2_giveBack dX2_giveBack_97 rfl rfl 2 rfl ?_
    obtain ⟨c5, e⟩ := gd_of e
    obtain ⟨r6, h7, e8, e⟩ := bd2_of e
    refine k_V (pc' := 101) (ci := 9) (n := 0) hc_X2_giveBack ho_X2_giveBack rfl c5 (w_X10_back D l hl x2 h2 e8) (wA_l q1296) q1297 (wA_l q1298) q109 q1299 hy_66 ⟨Nat.le_of_ble_eq_true rfl, Nat.le_of_ble_eq_true rfl⟩ rfl rfl (Nat.le_of_ble_eq_true rfl) dX2_giveBack_98 rfl (kS ?_) kN
    obtain ⟨c9, e⟩ := gd_of e
    obtain ⟨r10, h11, e12, e⟩ := bd2_of e
    refine k_F (pc' := 106) (x := ⟨"java/util/List", "set", "(ILjava/lang/Object;)Ljava/lang/Object;"⟩) (y := ⟨"java/util/ArrayList", "set", "(ILjava/lang/Object;)Ljava/lang/Object;"⟩) (ci := 16) (n := 2) hc_X2_giveBack ho_X2_giveBack rfl c9 (w_J2_set D l hl v4 x1 r6 h7 e12) (wA_l q1175) (by decide +kernel) q1178 q1180 q79 q1182 hy_51 ⟨Nat.le_of_ble_eq_true rfl, Nat.le_of_ble_eq_true rfl⟩ rfl rfl (Nat.le_of_ble_eq_true rfl) dX2_giveBack_101 rfl (kS ?_) kN
    obtain ⟨c13, e⟩ := gd_of e
    refine v_cast (pc' := 109) (ci := 9) hc_X2_giveBack ho_X2_giveBack rfl q516 (Or.inl rfl) dX2_giveBack_106 rfl c13 ?_
    refine v_astore (pc' := 111) (lv' := [(4, .ref r10), (0, .ref x0), (1, .int x1), (2, .ref x2), (3, .int x3)]) hc_X2_giveBack dX2_giveBack_109 rfl (Nat.le_of_ble_eq_true rfl) rfl ?_
    refine v_aload_n (pc' := 112) hc_X2_giveBack dX2_giveBack_111 rfl rfl 3 rfl ?_
    refine v_gnI (pc' := 115) hc_X2_giveBack ho_X2_giveBack KX10 4 (Nat.le_of_ble_eq_true rfl) q1252 rfl dX2_giveBack_112 rfl e (fun v14 _ e => ?_)
    obtain ⟨rfl, rfl⟩ := ret_of e
    exact v_iret hc_X2_giveBack rfl dX2_giveBack_115 rfl rfl
  · refine k_SN (pc' := 92) (x := ⟨"BlockPapers", "allow", "(ZII)V"⟩) (n := 3) hc_X2_giveBack ho_X2_giveBack (w_X1_allow D l hl s0 (12 : Int32) x3 h e3) q1090 q1091 q75 q1092 hy_44 ⟨Nat.le_of_ble_eq_true rfl, Nat.le_of_ble_eq_true rfl⟩ rfl rfl (Nat.le_of_ble_eq_true rfl) dX2_giveBack_89 rfl kM (kX ?_)
    exact v_outA (hp_X2_giveBack _) rfl rfl e
def f_X2_giveBack_j35 (x0 : Nat) (x1 : Int32) (x2 : Nat) (s0 : Int32) (h : AH) : Option ((Int32 ⊕ Nat) × AH) :=
  bd (gtI h 9 x2 5) fun v1 =>
  bdX (f_X1_allow s0 (11 : Int32) v1 h) (fun zq21 h3 =>
    outX h3 zq21
  ) fun r2 h3 =>
  bd (gtI h3 9 x2 3) fun v5 =>
  bd (gtR h3 1 x0 1) fun v6 =>
  bd (gtI h3 9 x2 2) fun v7 =>
  gd (isC h3 1 x0) <|
  bd2 (f_X2_latest x0 v7 h3) fun r9 h10 =>
  gd (isC h10 16 v6) <|
  bd2 (f_J2_get v6 r9 h10) fun r13 h14 =>
  gd (isC h14 8 r13) <|
  bd (gtI h14 8 r13 1) fun v17 =>
  bd2 (f_J15_abs (v5 - v17) h14) fun r18 h19 =>
  if (1 : Int32) < r18 then (
    f_X2_giveBack_j86 x0 x1 x2 r18 (0 : Int32) h19
  ) else (
    f_X2_giveBack_j86 x0 x1 x2 r18 (1 : Int32) h19
  )
theorem w_X2_giveBack_j35 (D : va_G) (l : Launch) (hl : l.stackTraces = false) (as : List Value) (h0 : AH) {r : (Int32 ⊕ Nat)} {hF : AH} (x0 : Nat) (x1 : Int32) (x2 : Nat) (s0 : Int32) (h : AH) (e : f_X2_giveBack_j35 x0 x1 x2 s0 h = some (r, hF)) : V (G_X2_giveBack D l as h0 hF ((oX oI) r)) h 35 [(0, .ref x0), (1, .int x1), (2, .ref x2)] [.int s0] := by
  unfold f_X2_giveBack_j35 at e
  refine v_bipush (pc' := 37) (v := 11) hc_X2_giveBack dX2_giveBack_35 rfl rfl ?_
  refine v_aload_n (pc' := 38) hc_X2_giveBack dX2_giveBack_37 rfl rfl 2 rfl ?_
  refine v_gnI (pc' := 41) hc_X2_giveBack ho_X2_giveBack KX10 5 (Nat.le_of_ble_eq_true rfl) q1256 rfl dX2_giveBack_38 rfl e (fun v1 _ e => ?_)
  rcases bdX_of e with ⟨r2, h3, e4, e⟩ | ⟨zq21, h3, e4, e⟩
  · refine k_SN (pc' := 44) (x := ⟨"BlockPapers", "allow", "(ZII)V"⟩) (n := 3) hc_X2_giveBack ho_X2_giveBack (w_X1_allow D l hl s0 (11 : Int32) v1 h e4) q1090 q1091 q75 q1092 hy_44 ⟨Nat.le_of_ble_eq_true rfl, Nat.le_of_ble_eq_true rfl⟩ rfl rfl (Nat.le_of_ble_eq_true rfl) dX2_giveBack_41 rfl (kU ?_) kN
    refine v_aload_n (pc' := 45) hc_X2_giveBack dX2_giveBack_44 rfl rfl 2 rfl ?_
    refine v_gnI (pc' := 48) hc_X2_giveBack ho_X2_giveBack KX10 3 (Nat.le_of_ble_eq_true rfl) q1249 rfl dX2_giveBack_45 rfl e (fun v5 _ e => ?_)
    refine v_aload_n (pc' := 49) hc_X2_giveBack dX2_giveBack_48 rfl rfl 0 rfl ?_
    refine v_gfR (pc' := 52) hc_X2_giveBack ho_X2_giveBack KX2 1 (Nat.le_of_ble_eq_true rfl) q166 (Or.inl rfl) dX2_giveBack_49 rfl e (fun v6 _ e => ?_)
    refine v_aload_n (pc' := 53) hc_X2_giveBack dX2_giveBack_52 rfl rfl 0 rfl ?_
    refine v_aload_n (pc' := 54) hc_X2_giveBack dX2_giveBack_53 rfl rfl 2 rfl ?_
    refine v_gnI (pc' := 57) hc_X2_giveBack ho_X2_giveBack KX10 2 (Nat.le_of_ble_eq_true rfl) q1246 rfl dX2_giveBack_54 rfl e (fun v7 _ e => ?_)
    obtain ⟨c8, e⟩ := gd_of e
    obtain ⟨r9, h10, e11, e⟩ := bd2_of e
    refine k_V (pc' := 60) (ci := 1) (n := 1) hc_X2_giveBack ho_X2_giveBack rfl c8 (w_X2_latest D l hl x0 v7 h3 e11) (wA_l q1289) q1290 (wA_l q1291) q76 q1292 hy_64 ⟨Nat.le_of_ble_eq_true rfl, Nat.le_of_ble_eq_true rfl⟩ rfl rfl (Nat.le_of_ble_eq_true rfl) dX2_giveBack_57 rfl (kS ?_) kN
    obtain ⟨c12, e⟩ := gd_of e
    obtain ⟨r13, h14, e15, e⟩ := bd2_of e
    refine k_F (pc' := 65) (x := ⟨"java/util/List", "get", "(I)Ljava/lang/Object;"⟩) (y := ⟨"java/util/ArrayList", "get", "(I)Ljava/lang/Object;"⟩) (ci := 16) (n := 1) hc_X2_giveBack ho_X2_giveBack rfl c12 (w_J2_get D l hl v6 r9 h10 e15) (wA_l q515) (by decide +kernel) q401 q403 q79 q405 hy_23 ⟨Nat.le_of_ble_eq_true rfl, Nat.le_of_ble_eq_true rfl⟩ rfl rfl (Nat.le_of_ble_eq_true rfl) dX2_giveBack_60 rfl (kS ?_) kN
    obtain ⟨c16, e⟩ := gd_of e
    refine v_cast (pc' := 68) (ci := 8) hc_X2_giveBack ho_X2_giveBack rfl q1187 (Or.inl rfl) dX2_giveBack_65 rfl c16 ?_
    refine v_gnI (pc' := 71) hc_X2_giveBack ho_X2_giveBack KX9 1 (Nat.le_of_ble_eq_true rfl) q1197 rfl dX2_giveBack_68 rfl e (fun v17 _ e => ?_)
    refine v_isub (pc' := 72) hc_X2_giveBack dX2_giveBack_71 rfl ?_
    obtain ⟨r18, h19, e20, e⟩ := bd2_of e
    refine k_S (pc' := 75) (n := 1) hc_X2_giveBack ho_X2_giveBack (w_J15_abs D l hl (v5 - v17) h14 e20) (wA_l q1293) q1294 q95 q1295 hy_65 ⟨Nat.le_of_ble_eq_true rfl, Nat.le_of_ble_eq_true rfl⟩ rfl rfl (Nat.le_of_ble_eq_true rfl) dX2_giveBack_72 rfl (kS ?_) kN
    refine v_istore_n (pc' := 76) (lv' := [(3, .int r18), (0, .ref x0), (1, .int x1), (2, .ref x2)]) hc_X2_giveBack dX2_giveBack_75 rfl rfl (Nat.le_of_ble_eq_true rfl) rfl ?_
    refine v_iload_n (pc' := 77) hc_X2_giveBack dX2_giveBack_76 rfl rfl 0 rfl ?_
    refine v_iconst (pc' := 78) (v := 1) hc_X2_giveBack dX2_giveBack_77 rfl rfl ?_
    refine v_icmp_gt (pt := 85) (pf := 81) hc_X2_giveBack dX2_giveBack_78 rfl rfl e (fun _ e => ?_) (fun _ e => ?_)
    · refine v_iconst (pc' := 86) (v := 0) hc_X2_giveBack dX2_giveBack_85 rfl rfl ?_
      refine v_pick [1, 2, 3, 0] rfl ?_
      exact w_X2_giveBack_j86 D l hl as h0 x0 x1 x2 r18 (0 : Int32) h19 e
    · refine v_iconst (pc' := 82) (v := 1) hc_X2_giveBack dX2_giveBack_81 rfl rfl ?_
      refine v_goto (pt := 86) hc_X2_giveBack dX2_giveBack_82 rfl ?_
      refine v_pick [1, 2, 3, 0] rfl ?_
      exact w_X2_giveBack_j86 D l hl as h0 x0 x1 x2 r18 (1 : Int32) h19 e
  · refine k_SN (pc' := 44) (x := ⟨"BlockPapers", "allow", "(ZII)V"⟩) (n := 3) hc_X2_giveBack ho_X2_giveBack (w_X1_allow D l hl s0 (11 : Int32) v1 h e4) q1090 q1091 q75 q1092 hy_44 ⟨Nat.le_of_ble_eq_true rfl, Nat.le_of_ble_eq_true rfl⟩ rfl rfl (Nat.le_of_ble_eq_true rfl) dX2_giveBack_41 rfl kM (kX ?_)
    exact v_outA (hp_X2_giveBack _) rfl rfl e
def f_X2_giveBack_j18 (x0 : Nat) (x1 : Int32) (x2 : Nat) (s0 : Int32) (h : AH) : Option ((Int32 ⊕ Nat) × AH) :=
  bdX (f_X1_allow s0 (5 : Int32) x1 h) (fun zq5 h2 =>
    outX h2 zq5
  ) fun r1 h2 =>
  bd (gtI h2 9 x2 5) fun v4 =>
  if v4 = 0 then (
    f_X2_giveBack_j35 x0 x1 x2 (1 : Int32) h2
  ) else (
    f_X2_giveBack_j35 x0 x1 x2 (0 : Int32) h2
  )
theorem w_X2_giveBack_j18 (D : va_G) (l : Launch) (hl : l.stackTraces = false) (as : List Value) (h0 : AH) {r : (Int32 ⊕ Nat)} {hF : AH} (x0 : Nat) (x1 : Int32) (x2 : Nat) (s0 : Int32) (h : AH) (e : f_X2_giveBack_j18 x0 x1 x2 s0 h = some (r, hF)) : V (G_X2_giveBack D l as h0 hF ((oX oI) r)) h 18 [(0, .ref x0), (1, .int x1), (2, .ref x2)] [.int s0] := by
  unfold f_X2_giveBack_j18 at e
  refine v_iconst (pc' := 19) (v := 5) hc_X2_giveBack dX2_giveBack_18 rfl rfl ?_
  refine v_iload_n (pc' := 20) hc_X2_giveBack dX2_giveBack_19 rfl rfl 1 rfl ?_
  rcases bdX_of e with ⟨r1, h2, e3, e⟩ | ⟨zq5, h2, e3, e⟩
  · refine k_SN (pc' := 23) (x := ⟨"BlockPapers", "allow", "(ZII)V"⟩) (n := 3) hc_X2_giveBack ho_X2_giveBack (w_X1_allow D l hl s0 (5 : Int32) x1 h e3) q1090 q1091 q75 q1092 hy_44 ⟨Nat.le_of_ble_eq_true rfl, Nat.le_of_ble_eq_true rfl⟩ rfl rfl (Nat.le_of_ble_eq_true rfl) dX2_giveBack_20 rfl (kU ?_) kN
    refine v_aload_n (pc' := 24) hc_X2_giveBack dX2_giveBack_23 rfl rfl 2 rfl ?_
    refine v_gnI (pc' := 27) hc_X2_giveBack ho_X2_giveBack KX10 5 (Nat.le_of_ble_eq_true rfl) q1256 rfl dX2_giveBack_24 rfl e (fun v4 _ e => ?_)
    refine v_if_ne (pt := 34) (pf := 30) hc_X2_giveBack dX2_giveBack_27 rfl rfl e (fun _ e => ?_) (fun _ e => ?_)
    · refine v_iconst (pc' := 31) (v := 1) hc_X2_giveBack dX2_giveBack_30 rfl rfl ?_
      refine v_goto (pt := 35) hc_X2_giveBack dX2_giveBack_31 rfl ?_
      exact w_X2_giveBack_j35 D l hl as h0 x0 x1 x2 (1 : Int32) h2 e
    · refine v_iconst (pc' := 35) (v := 0) hc_X2_giveBack dX2_giveBack_34 rfl rfl ?_
      exact w_X2_giveBack_j35 D l hl as h0 x0 x1 x2 (0 : Int32) h2 e
  · refine k_SN (pc' := 23) (x := ⟨"BlockPapers", "allow", "(ZII)V"⟩) (n := 3) hc_X2_giveBack ho_X2_giveBack (w_X1_allow D l hl s0 (5 : Int32) x1 h e3) q1090 q1091 q75 q1092 hy_44 ⟨Nat.le_of_ble_eq_true rfl, Nat.le_of_ble_eq_true rfl⟩ rfl rfl (Nat.le_of_ble_eq_true rfl) dX2_giveBack_20 rfl kM (kX ?_)
    exact v_outA (hp_X2_giveBack _) rfl rfl e
def f_X2_giveBack (x0 : Nat) (x1 : Int32) (h : AH) : Option ((Int32 ⊕ Nat) × AH) :=
  gd (isC h 1 x0) <|
  bdX (f_X2_roll x0 x1 h) (fun zq6 h3 =>
    outX h3 zq6
  ) fun r2 h3 =>
  bd (gtI h3 9 r2 6) fun v5 =>
  if v5 = 0 then (
    f_X2_giveBack_j18 x0 x1 r2 (1 : Int32) h3
  ) else (
    f_X2_giveBack_j18 x0 x1 r2 (0 : Int32) h3
  )
theorem v_X2_giveBack (D : va_G) (l : Launch) (hl : l.stackTraces = false) (as : List Value) (h0 : AH) {r : (Int32 ⊕ Nat)} {hF : AH} (x0 : Nat) (x1 : Int32) (h : AH) (e : f_X2_giveBack x0 x1 h = some (r, hF)) : V (G_X2_giveBack D l as h0 hF ((oX oI) r)) h 0 [(0, .ref x0), (1, .int x1)] [] := by
  unfold f_X2_giveBack at e
  refine v_aload_n (pc' := 1) hc_X2_giveBack dX2_giveBack_0 rfl rfl 0 rfl ?_
  refine v_iload_n (pc' := 2) hc_X2_giveBack dX2_giveBack_1 rfl rfl 1 rfl ?_
  obtain ⟨c1, e⟩ := gd_of e
  rcases bdX_of e with ⟨r2, h3, e4, e⟩ | ⟨zq6, h3, e4, e⟩
  · refine k_V (pc' := 5) (ci := 1) (n := 1) hc_X2_giveBack ho_X2_giveBack rfl c1 (w_X2_roll D l hl x0 x1 h e4) (wA_l q1285) q1286 (wA_l q1287) q76 q1288 hy_63 ⟨Nat.le_of_ble_eq_true rfl, Nat.le_of_ble_eq_true rfl⟩ rfl rfl (Nat.le_of_ble_eq_true rfl) dX2_giveBack_2 rfl (kS ?_) kN
    refine v_astore_n (pc' := 6) (lv' := [(2, .ref r2), (0, .ref x0), (1, .int x1)]) hc_X2_giveBack dX2_giveBack_5 rfl rfl (Nat.le_of_ble_eq_true rfl) rfl ?_
    refine v_aload_n (pc' := 7) hc_X2_giveBack dX2_giveBack_6 rfl rfl 0 rfl ?_
    refine v_gnI (pc' := 10) hc_X2_giveBack ho_X2_giveBack KX10 6 (Nat.le_of_ble_eq_true rfl) q1259 rfl dX2_giveBack_7 rfl e (fun v5 _ e => ?_)
    refine v_if_ne (pt := 17) (pf := 13) hc_X2_giveBack dX2_giveBack_10 rfl rfl e (fun _ e => ?_) (fun _ e => ?_)
    · refine v_iconst (pc' := 14) (v := 1) hc_X2_giveBack dX2_giveBack_13 rfl rfl ?_
      refine v_goto (pt := 18) hc_X2_giveBack dX2_giveBack_14 rfl ?_
      refine v_pick [1, 2, 0] rfl ?_
      exact w_X2_giveBack_j18 D l hl as h0 x0 x1 r2 (1 : Int32) h3 e
    · refine v_iconst (pc' := 18) (v := 0) hc_X2_giveBack dX2_giveBack_17 rfl rfl ?_
      refine v_pick [1, 2, 0] rfl ?_
      exact w_X2_giveBack_j18 D l hl as h0 x0 x1 r2 (0 : Int32) h3 e
  · refine k_V (pc' := 5) (ci := 1) (n := 1) hc_X2_giveBack ho_X2_giveBack rfl c1 (w_X2_roll D l hl x0 x1 h e4) (wA_l q1285) q1286 (wA_l q1287) q76 q1288 hy_63 ⟨Nat.le_of_ble_eq_true rfl, Nat.le_of_ble_eq_true rfl⟩ rfl rfl (Nat.le_of_ble_eq_true rfl) dX2_giveBack_2 rfl kM (kX ?_)
    exact v_outA (hp_X2_giveBack _) rfl rfl e
theorem w_X2_giveBack (D : va_G) (l : Launch) (hl : l.stackTraces = false) (x0 : Nat) (x1 : Int32) (h : AH) {r : (Int32 ⊕ Nat)} {hF : AH} (e : f_X2_giveBack x0 x1 h = some (r, hF)) : MetV D l yX2_giveBack (Cond.code yX2_giveBack cX2_giveBack 5 (Option.some .int)) 8 140 [.ref x0, .int x1] h hF ((oX oI) r) :=
  met_ofF (by decide +kernel) hl (Nat.le_of_ble_eq_true rfl) rfl (v_X2_giveBack D l hl [.ref x0, .int x1] h x0 x1 h e)
/-! BlockPapers$Workshop.addRoom(II)I  -/
abbrev G_X2_addRoom (D : va_G) (l : Launch) (as : List Value) (h0 hF : AH) (o : Out) : CT := (D, l, (yX2_addRoom.cls, yX2_addRoom, cX2_addRoom, 3, (Option.some .int), 8, 200, []), as, h0, hF, o)
theorem hc_X2_addRoom {D : va_G} {l : Launch} {as : List Value} {h0 hF : AH} {o : Out} : gC (G_X2_addRoom D l as h0 hF o) = cX2_addRoom := rfl
theorem ho_X2_addRoom {D : va_G} {l : Launch} {as : List Value} {h0 hF : AH} {o : Out} : gO (G_X2_addRoom D l as h0 hF o) = "BlockPapers$Workshop" := rfl
theorem hp_X2_addRoom {D : va_G} {l : Launch} {as : List Value} {h0 hF : AH} {o : Out} (pc : Nat) : ∀ z ∈ tableOf (gHd (G_X2_addRoom D l as h0 hF o)), covers z pc = false := hpN
def f_X2_addRoom_j50 (x0 : Nat) (x1 : Int32) (x2 : Int32) (s0 : Int32) (h : AH) : Option ((Int32 ⊕ Nat) × AH) :=
  bdX (f_X1_allow s0 (1 : Int32) (6 : Int32) h) (fun zq19 h2 =>
    outX h2 zq19
  ) fun r1 h2 =>
  bd (gtR h2 1 x0 3) fun v4 =>
  bd2 (nwX h2 4 5 fsX5) fun a6 h5 =>
  bd2 (f_X5_init_2 a6 x1 x2 h5) fun r7 h8 =>
  gd (isC h8 16 v4) <|
  bd2 (f_J2_add v4 a6 h8) fun r11 h12 =>
  bd (gtR h12 1 x0 3) fun v14 =>
  gd (isC h12 16 v14) <|
  bd2 (f_J2_size v14 h12) fun r16 h17 =>
  some (.inl (r16 - (1 : Int32)), h17)
theorem w_X2_addRoom_j50 (D : va_G) (l : Launch) (hl : l.stackTraces = false) (as : List Value) (h0 : AH) {r : (Int32 ⊕ Nat)} {hF : AH} (x0 : Nat) (x1 : Int32) (x2 : Int32) (s0 : Int32) (h : AH) (e : f_X2_addRoom_j50 x0 x1 x2 s0 h = some (r, hF)) : V (G_X2_addRoom D l as h0 hF ((oX oI) r)) h 50 [(0, .ref x0), (1, .int x1), (2, .int x2)] [.int s0] := by
  unfold f_X2_addRoom_j50 at e
  refine v_iconst (pc' := 51) (v := 1) hc_X2_addRoom dX2_addRoom_50 rfl rfl ?_
  refine v_bipush (pc' := 53) (v := 6) hc_X2_addRoom dX2_addRoom_51 rfl rfl ?_
  rcases bdX_of e with ⟨r1, h2, e3, e⟩ | ⟨zq19, h2, e3, e⟩
  · refine k_SN (pc' := 56) (x := ⟨"BlockPapers", "allow", "(ZII)V"⟩) (n := 3) hc_X2_addRoom ho_X2_addRoom (w_X1_allow D l hl s0 (1 : Int32) (6 : Int32) h e3) q1090 q1091 q75 q1092 hy_44 ⟨Nat.le_of_ble_eq_true rfl, Nat.le_of_ble_eq_true rfl⟩ rfl rfl (Nat.le_of_ble_eq_true rfl) dX2_addRoom_53 rfl (kU ?_) kN
    refine v_aload_n (pc' := 57) hc_X2_addRoom dX2_addRoom_56 rfl rfl 0 rfl ?_
    refine v_gfR (pc' := 60) hc_X2_addRoom ho_X2_addRoom KX2 3 (Nat.le_of_ble_eq_true rfl) q171 (Or.inl rfl) dX2_addRoom_57 rfl e (fun v4 _ e => ?_)
    refine v_newX (pc' := 63) hc_X2_addRoom ho_X2_addRoom KX5 q544 q863 q99 rfl dfX5 dX2_addRoom_60 rfl e (fun a6 h5 _ e => ?_)
    refine v_dup (pc' := 64) hc_X2_addRoom dX2_addRoom_63 rfl rfl ?_
    refine v_iload_n (pc' := 65) hc_X2_addRoom dX2_addRoom_64 rfl rfl 1 rfl ?_
    refine v_iload_n (pc' := 66) hc_X2_addRoom dX2_addRoom_65 rfl rfl 2 rfl ?_
    obtain ⟨r7, h8, e9, e⟩ := bd2_of e
    refine k_I (pc' := 69) (n := 2) hc_X2_addRoom ho_X2_addRoom (w_X5_init_2 D l hl a6 x1 x2 h5 e9) (wA_l q1305) q868 q99 q869 rfl hy_24 ⟨Nat.le_of_ble_eq_true rfl, Nat.le_of_ble_eq_true rfl⟩ rfl rfl (Nat.le_of_ble_eq_true rfl) dX2_addRoom_66 rfl (kU ?_) kN
    obtain ⟨c10, e⟩ := gd_of e
    obtain ⟨r11, h12, e13, e⟩ := bd2_of e
    refine k_F (pc' := 74) (x := ⟨"java/util/List", "add", "(Ljava/lang/Object;)Z"⟩) (y := ⟨"java/util/ArrayList", "add", "(Ljava/lang/Object;)Z"⟩) (ci := 16) (n := 1) hc_X2_addRoom ho_X2_addRoom rfl c10 (w_J2_add D l hl v4 a6 h8 e13) (wA_l q904) (by decide +kernel) q907 q909 q79 q911 hy_28 ⟨Nat.le_of_ble_eq_true rfl, Nat.le_of_ble_eq_true rfl⟩ rfl rfl (Nat.le_of_ble_eq_true rfl) dX2_addRoom_69 rfl (kS ?_) kN
    refine v_pop (pc' := 75) hc_X2_addRoom dX2_addRoom_74 rfl rfl ?_
    refine v_aload_n (pc' := 76) hc_X2_addRoom dX2_addRoom_75 rfl rfl 0 rfl ?_
    refine v_gfR (pc' := 79) hc_X2_addRoom ho_X2_addRoom KX2 3 (Nat.le_of_ble_eq_true rfl) q171 (Or.inl rfl) dX2_addRoom_76 rfl e (fun v14 _ e => ?_)
    obtain ⟨c15, e⟩ := gd_of e
    obtain ⟨r16, h17, e18, e⟩ := bd2_of e
    refine k_F (pc' := 84) (x := ⟨"java/util/List", "size", "()I"⟩) (y := ⟨"java/util/ArrayList", "size", "()I"⟩) (ci := 16) (n := 0) hc_X2_addRoom ho_X2_addRoom rfl c15 (w_J2_size D l hl v14 h12 e18) (wA_l q513) (by decide +kernel) q348 q350 q79 q352 hy_19 ⟨Nat.le_of_ble_eq_true rfl, Nat.le_of_ble_eq_true rfl⟩ rfl rfl (Nat.le_of_ble_eq_true rfl) dX2_addRoom_79 rfl (kS ?_) kN
    refine v_iconst (pc' := 85) (v := 1) hc_X2_addRoom dX2_addRoom_84 rfl rfl ?_
    refine v_isub (pc' := 86) hc_X2_addRoom dX2_addRoom_85 rfl ?_
    obtain ⟨rfl, rfl⟩ := ret_of e
    exact v_iret hc_X2_addRoom rfl dX2_addRoom_86 rfl rfl
  · refine k_SN (pc' := 56) (x := ⟨"BlockPapers", "allow", "(ZII)V"⟩) (n := 3) hc_X2_addRoom ho_X2_addRoom (w_X1_allow D l hl s0 (1 : Int32) (6 : Int32) h e3) q1090 q1091 q75 q1092 hy_44 ⟨Nat.le_of_ble_eq_true rfl, Nat.le_of_ble_eq_true rfl⟩ rfl rfl (Nat.le_of_ble_eq_true rfl) dX2_addRoom_53 rfl kM (kX ?_)
    exact v_outA (hp_X2_addRoom _) rfl rfl e
def f_X2_addRoom_j28 (x0 : Nat) (x1 : Int32) (x2 : Int32) (s0 : Int32) (h : AH) : Option ((Int32 ⊕ Nat) × AH) :=
  bdX (f_X1_require s0 h) (fun zq9 h2 =>
    outX h2 zq9
  ) fun r1 h2 =>
  bd (gtR h2 1 x0 3) fun v4 =>
  gd (isC h2 16 v4) <|
  bd2 (f_J2_size v4 h2) fun r6 h7 =>
  if (6 : Int32) ≤ r6 then (
    f_X2_addRoom_j50 x0 x1 x2 (0 : Int32) h7
  ) else (
    f_X2_addRoom_j50 x0 x1 x2 (1 : Int32) h7
  )
theorem w_X2_addRoom_j28 (D : va_G) (l : Launch) (hl : l.stackTraces = false) (as : List Value) (h0 : AH) {r : (Int32 ⊕ Nat)} {hF : AH} (x0 : Nat) (x1 : Int32) (x2 : Int32) (s0 : Int32) (h : AH) (e : f_X2_addRoom_j28 x0 x1 x2 s0 h = some (r, hF)) : V (G_X2_addRoom D l as h0 hF ((oX oI) r)) h 28 [(0, .ref x0), (1, .int x1), (2, .int x2)] [.int s0] := by
  unfold f_X2_addRoom_j28 at e
  rcases bdX_of e with ⟨r1, h2, e3, e⟩ | ⟨zq9, h2, e3, e⟩
  · refine k_SN (pc' := 31) (x := ⟨"BlockPapers", "require", "(Z)V"⟩) (n := 1) hc_X2_addRoom ho_X2_addRoom (w_X1_require D l hl s0 h e3) q1089 q270 q75 q271 hy_40 ⟨Nat.le_of_ble_eq_true rfl, Nat.le_of_ble_eq_true rfl⟩ rfl rfl (Nat.le_of_ble_eq_true rfl) dX2_addRoom_28 rfl (kU ?_) kN
    refine v_aload_n (pc' := 32) hc_X2_addRoom dX2_addRoom_31 rfl rfl 0 rfl ?_
    refine v_gfR (pc' := 35) hc_X2_addRoom ho_X2_addRoom KX2 3 (Nat.le_of_ble_eq_true rfl) q171 (Or.inl rfl) dX2_addRoom_32 rfl e (fun v4 _ e => ?_)
    obtain ⟨c5, e⟩ := gd_of e
    obtain ⟨r6, h7, e8, e⟩ := bd2_of e
    refine k_F (pc' := 40) (x := ⟨"java/util/List", "size", "()I"⟩) (y := ⟨"java/util/ArrayList", "size", "()I"⟩) (ci := 16) (n := 0) hc_X2_addRoom ho_X2_addRoom rfl c5 (w_J2_size D l hl v4 h2 e8) (wA_l q513) (by decide +kernel) q348 q350 q79 q352 hy_19 ⟨Nat.le_of_ble_eq_true rfl, Nat.le_of_ble_eq_true rfl⟩ rfl rfl (Nat.le_of_ble_eq_true rfl) dX2_addRoom_35 rfl (kS ?_) kN
    refine v_bipush (pc' := 42) (v := 6) hc_X2_addRoom dX2_addRoom_40 rfl rfl ?_
    refine v_icmp_ge (pt := 49) (pf := 45) hc_X2_addRoom dX2_addRoom_42 rfl rfl e (fun _ e => ?_) (fun _ e => ?_)
    · refine v_iconst (pc' := 50) (v := 0) hc_X2_addRoom dX2_addRoom_49 rfl rfl ?_
      exact w_X2_addRoom_j50 D l hl as h0 x0 x1 x2 (0 : Int32) h7 e
    · refine v_iconst (pc' := 46) (v := 1) hc_X2_addRoom dX2_addRoom_45 rfl rfl ?_
      refine v_goto (pt := 50) hc_X2_addRoom dX2_addRoom_46 rfl ?_
      exact w_X2_addRoom_j50 D l hl as h0 x0 x1 x2 (1 : Int32) h7 e
  · refine k_SN (pc' := 31) (x := ⟨"BlockPapers", "require", "(Z)V"⟩) (n := 1) hc_X2_addRoom ho_X2_addRoom (w_X1_require D l hl s0 h e3) q1089 q270 q75 q271 hy_40 ⟨Nat.le_of_ble_eq_true rfl, Nat.le_of_ble_eq_true rfl⟩ rfl rfl (Nat.le_of_ble_eq_true rfl) dX2_addRoom_28 rfl kM (kX ?_)
    exact v_outA (hp_X2_addRoom _) rfl rfl e
def f_X2_addRoom (x0 : Nat) (x1 : Int32) (x2 : Int32) (h : AH) : Option ((Int32 ⊕ Nat) × AH) :=
  bd2 (f_X1_inRange x1 (150 : Int32) (400 : Int32) h) fun r1 h2 =>
  if r1 = 0 then (
    f_X2_addRoom_j28 x0 x1 x2 (0 : Int32) h2
  ) else (
    bd2 (f_X1_inRange x2 (1 : Int32) (30 : Int32) h2) fun r4 h5 =>
    if r4 = 0 then (
      f_X2_addRoom_j28 x0 x1 x2 (0 : Int32) h5
    ) else (
      f_X2_addRoom_j28 x0 x1 x2 (1 : Int32) h5
    )
  )
theorem v_X2_addRoom (D : va_G) (l : Launch) (hl : l.stackTraces = false) (as : List Value) (h0 : AH) {r : (Int32 ⊕ Nat)} {hF : AH} (x0 : Nat) (x1 : Int32) (x2 : Int32) (h : AH) (e : f_X2_addRoom x0 x1 x2 h = some (r, hF)) : V (G_X2_addRoom D l as h0 hF ((oX oI) r)) h 0 [(0, .ref x0), (1, .int x1), (2, .int x2)] [] := by
  unfold f_X2_addRoom at e
  refine v_iload_n (pc' := 1) hc_X2_addRoom dX2_addRoom_0 rfl rfl 1 rfl ?_
  refine v_sipush (pc' := 4) (v := 150) hc_X2_addRoom dX2_addRoom_1 rfl rfl ?_
  refine v_sipush (pc' := 7) (v := 400) hc_X2_addRoom dX2_addRoom_4 rfl rfl ?_
  obtain ⟨r1, h2, e3, e⟩ := bd2_of e
  refine k_SN (pc' := 10) (x := ⟨"BlockPapers", "inRange", "(III)Z"⟩) (n := 3) hc_X2_addRoom ho_X2_addRoom (w_X1_inRange D l hl x1 (150 : Int32) (400 : Int32) h e3) q1088 q267 q75 q268 hy_39 ⟨Nat.le_of_ble_eq_true rfl, Nat.le_of_ble_eq_true rfl⟩ rfl rfl (Nat.le_of_ble_eq_true rfl) dX2_addRoom_7 rfl (kS ?_) kN
  refine v_if_eq (pt := 27) (pf := 13) hc_X2_addRoom dX2_addRoom_10 rfl rfl e (fun _ e => ?_) (fun _ e => ?_)
  · refine v_iconst (pc' := 28) (v := 0) hc_X2_addRoom dX2_addRoom_27 rfl rfl ?_
    exact w_X2_addRoom_j28 D l hl as h0 x0 x1 x2 (0 : Int32) h2 e
  · refine v_iload_n (pc' := 14) hc_X2_addRoom dX2_addRoom_13 rfl rfl 2 rfl ?_
    refine v_iconst (pc' := 15) (v := 1) hc_X2_addRoom dX2_addRoom_14 rfl rfl ?_
    refine v_bipush (pc' := 17) (v := 30) hc_X2_addRoom dX2_addRoom_15 rfl rfl ?_
    obtain ⟨r4, h5, e6, e⟩ := bd2_of e
    refine k_SN (pc' := 20) (x := ⟨"BlockPapers", "inRange", "(III)Z"⟩) (n := 3) hc_X2_addRoom ho_X2_addRoom (w_X1_inRange D l hl x2 (1 : Int32) (30 : Int32) h2 e6) q1088 q267 q75 q268 hy_39 ⟨Nat.le_of_ble_eq_true rfl, Nat.le_of_ble_eq_true rfl⟩ rfl rfl (Nat.le_of_ble_eq_true rfl) dX2_addRoom_17 rfl (kS ?_) kN
    refine v_if_eq (pt := 27) (pf := 23) hc_X2_addRoom dX2_addRoom_20 rfl rfl e (fun _ e => ?_) (fun _ e => ?_)
    · refine v_iconst (pc' := 28) (v := 0) hc_X2_addRoom dX2_addRoom_27 rfl rfl ?_
      exact w_X2_addRoom_j28 D l hl as h0 x0 x1 x2 (0 : Int32) h5 e
    · refine v_iconst (pc' := 24) (v := 1) hc_X2_addRoom dX2_addRoom_23 rfl rfl ?_
      refine v_goto (pt := 28) hc_X2_addRoom dX2_addRoom_24 rfl ?_
      exact w_X2_addRoom_j28 D l hl as h0 x0 x1 x2 (1 : Int32) h5 e
theorem w_X2_addRoom (D : va_G) (l : Launch) (hl : l.stackTraces = false) (x0 : Nat) (x1 : Int32) (x2 : Int32) (h : AH) {r : (Int32 ⊕ Nat)} {hF : AH} (e : f_X2_addRoom x0 x1 x2 h = some (r, hF)) : MetV D l yX2_addRoom (Cond.code yX2_addRoom cX2_addRoom 3 (Option.some .int)) 8 200 [.ref x0, .int x1, .int x2] h hF ((oX oI) r) :=
  met_ofF (by decide +kernel) hl (Nat.le_of_ble_eq_true rfl) rfl (v_X2_addRoom D l hl [.ref x0, .int x1, .int x2] h x0 x1 x2 h e)
/-! BlockPapers$Workshop.room(I)LBlockPapers$Room;  -/
abbrev G_X2_room (D : va_G) (l : Launch) (as : List Value) (h0 hF : AH) (o : Out) : CT := (D, l, (yX2_room.cls, yX2_room, cX2_room, 2, (Option.some (.object "BlockPapers$Room")), 7, 112, []), as, h0, hF, o)
theorem hc_X2_room {D : va_G} {l : Launch} {as : List Value} {h0 hF : AH} {o : Out} : gC (G_X2_room D l as h0 hF o) = cX2_room := rfl
theorem ho_X2_room {D : va_G} {l : Launch} {as : List Value} {h0 hF : AH} {o : Out} : gO (G_X2_room D l as h0 hF o) = "BlockPapers$Workshop" := rfl
theorem hp_X2_room {D : va_G} {l : Launch} {as : List Value} {h0 hF : AH} {o : Out} (pc : Nat) : ∀ z ∈ tableOf (gHd (G_X2_room D l as h0 hF o)), covers z pc = false := hpN
def f_X2_room (x0 : Nat) (x1 : Int32) (h : AH) : Option ((Nat ⊕ Nat) × AH) :=
  bd (gtR h 1 x0 3) fun v1 =>
  gd (isC h 16 v1) <|
  bd2 (f_J2_size v1 h) fun r3 h4 =>
  bd2 (f_X1_inRange x1 (0 : Int32) (r3 - (1 : Int32)) h4) fun r6 h7 =>
  bdX (f_X1_requireIndex r6 h7) (fun zq18 h10 =>
    outX h10 zq18
  ) fun r9 h10 =>
  bd (gtR h10 1 x0 3) fun v12 =>
  gd (isC h10 16 v12) <|
  bd2 (f_J2_get v12 x1 h10) fun r14 h15 =>
  gd (isC h15 4 r14) <|
  some (.inl r14, h15)
theorem v_X2_room (D : va_G) (l : Launch) (hl : l.stackTraces = false) (as : List Value) (h0 : AH) {r : (Nat ⊕ Nat)} {hF : AH} (x0 : Nat) (x1 : Int32) (h : AH) (e : f_X2_room x0 x1 h = some (r, hF)) : V (G_X2_room D l as h0 hF ((oX oR) r)) h 0 [(0, .ref x0), (1, .int x1)] [] := by
  unfold f_X2_room at e
  refine v_iload_n (pc' := 1) hc_X2_room dX2_room_0 rfl rfl 1 rfl ?_
  refine v_iconst (pc' := 2) (v := 0) hc_X2_room dX2_room_1 rfl rfl ?_
  refine v_aload_n (pc' := 3) hc_X2_room dX2_room_2 rfl rfl 0 rfl ?_
  refine v_gfR (pc' := 6) hc_X2_room ho_X2_room KX2 3 (Nat.le_of_ble_eq_true rfl) q171 (Or.inl rfl) dX2_room_3 rfl e (fun v1 _ e => ?_)
  obtain ⟨c2, e⟩ := gd_of e
  obtain ⟨r3, h4, e5, e⟩ := bd2_of e
  refine k_F (pc' := 11) (x := ⟨"java/util/List", "size", "()I"⟩) (y := ⟨"java/util/ArrayList", "size", "()I"⟩) (ci := 16) (n := 0) hc_X2_room ho_X2_room rfl c2 (w_J2_size D l hl v1 h e5) (wA_l q513) (by decide +kernel) q348 q350 q79 q352 hy_19 ⟨Nat.le_of_ble_eq_true rfl, Nat.le_of_ble_eq_true rfl⟩ rfl rfl (Nat.le_of_ble_eq_true rfl) dX2_room_6 rfl (kS ?_) kN
  refine v_iconst (pc' := 12) (v := 1) hc_X2_room dX2_room_11 rfl rfl ?_
  refine v_isub (pc' := 13) hc_X2_room dX2_room_12 rfl ?_
  obtain ⟨r6, h7, e8, e⟩ := bd2_of e
  refine k_SN (pc' := 16) (x := ⟨"BlockPapers", "inRange", "(III)Z"⟩) (n := 3) hc_X2_room ho_X2_room (w_X1_inRange D l hl x1 (0 : Int32) (r3 - (1 : Int32)) h4 e8) q1088 q267 q75 q268 hy_39 ⟨Nat.le_of_ble_eq_true rfl, Nat.le_of_ble_eq_true rfl⟩ rfl rfl (Nat.le_of_ble_eq_true rfl) dX2_room_13 rfl (kS ?_) kN
  rcases bdX_of e with ⟨r9, h10, e11, e⟩ | ⟨zq18, h10, e11, e⟩
  · refine k_SN (pc' := 19) (x := ⟨"BlockPapers", "requireIndex", "(Z)V"⟩) (n := 1) hc_X2_room ho_X2_room (w_X1_requireIndex D l hl r6 h7 e11) q1151 q1152 q75 q1153 hy_48 ⟨Nat.le_of_ble_eq_true rfl, Nat.le_of_ble_eq_true rfl⟩ rfl rfl (Nat.le_of_ble_eq_true rfl) dX2_room_16 rfl (kU ?_) kN
    refine v_aload_n (pc' := 20) hc_X2_room dX2_room_19 rfl rfl 0 rfl ?_
    refine v_gfR (pc' := 23) hc_X2_room ho_X2_room KX2 3 (Nat.le_of_ble_eq_true rfl) q171 (Or.inl rfl) dX2_room_20 rfl e (fun v12 _ e => ?_)
    refine v_iload_n (pc' := 24) hc_X2_room dX2_room_23 rfl rfl 1 rfl ?_
    obtain ⟨c13, e⟩ := gd_of e
    obtain ⟨r14, h15, e16, e⟩ := bd2_of e
    refine k_F (pc' := 29) (x := ⟨"java/util/List", "get", "(I)Ljava/lang/Object;"⟩) (y := ⟨"java/util/ArrayList", "get", "(I)Ljava/lang/Object;"⟩) (ci := 16) (n := 1) hc_X2_room ho_X2_room rfl c13 (w_J2_get D l hl v12 x1 h10 e16) (wA_l q515) (by decide +kernel) q401 q403 q79 q405 hy_23 ⟨Nat.le_of_ble_eq_true rfl, Nat.le_of_ble_eq_true rfl⟩ rfl rfl (Nat.le_of_ble_eq_true rfl) dX2_room_24 rfl (kS ?_) kN
    obtain ⟨c17, e⟩ := gd_of e
    refine v_cast (pc' := 32) (ci := 4) hc_X2_room ho_X2_room rfl q544 (Or.inl rfl) dX2_room_29 rfl c17 ?_
    obtain ⟨rfl, rfl⟩ := ret_of e
    exact v_aret hc_X2_room rfl (Or.inl ⟨_, rfl⟩) (Or.inr ⟨_, rfl⟩) dX2_room_32 rfl rfl
  · refine k_SN (pc' := 19) (x := ⟨"BlockPapers", "requireIndex", "(Z)V"⟩) (n := 1) hc_X2_room ho_X2_room (w_X1_requireIndex D l hl r6 h7 e11) q1151 q1152 q75 q1153 hy_48 ⟨Nat.le_of_ble_eq_true rfl, Nat.le_of_ble_eq_true rfl⟩ rfl rfl (Nat.le_of_ble_eq_true rfl) dX2_room_16 rfl kM (kX ?_)
    exact v_outA (hp_X2_room _) rfl rfl e
theorem w_X2_room (D : va_G) (l : Launch) (hl : l.stackTraces = false) (x0 : Nat) (x1 : Int32) (h : AH) {r : (Nat ⊕ Nat)} {hF : AH} (e : f_X2_room x0 x1 h = some (r, hF)) : MetV D l yX2_room (Cond.code yX2_room cX2_room 2 (Option.some (.object "BlockPapers$Room"))) 7 112 [.ref x0, .int x1] h hF ((oX oR) r) :=
  met_ofF (by decide +kernel) hl (Nat.le_of_ble_eq_true rfl) rfl (v_X2_room D l hl [.ref x0, .int x1] h x0 x1 h e)
/-! BlockPapers$Workshop.first(LBlockPapers$Room;)LBlockPapers$Roll;  -/
abbrev G_X2_first (D : va_G) (l : Launch) (as : List Value) (h0 hF : AH) (o : Out) : CT := (D, l, (yX2_first.cls, yX2_first, cX2_first, 2, (Option.some (.object "BlockPapers$Roll")), 4, 112, []), as, h0, hF, o)
theorem hc_X2_first {D : va_G} {l : Launch} {as : List Value} {h0 hF : AH} {o : Out} : gC (G_X2_first D l as h0 hF o) = cX2_first := rfl
theorem ho_X2_first {D : va_G} {l : Launch} {as : List Value} {h0 hF : AH} {o : Out} : gO (G_X2_first D l as h0 hF o) = "BlockPapers$Workshop" := rfl
theorem hp_X2_first {D : va_G} {l : Launch} {as : List Value} {h0 hF : AH} {o : Out} (pc : Nat) : ∀ z ∈ tableOf (gHd (G_X2_first D l as h0 hF o)), covers z pc = false := hpN
def f_X2_first (x0 : Nat) (x1 : Nat) (h : AH) : Option (Option Nat × AH) :=
  bd (gtR h 4 x1 2) fun v1 =>
  gd (isC h 16 v1) <|
  bd2 (f_J2_isEmpty v1 h) fun r3 h4 =>
  if r3 = 0 then (
    bd (gtR h4 1 x0 2) fun v6 =>
    bd (gtR h4 4 x1 2) fun v7 =>
    gd (isC h4 16 v7) <|
    bd2 (f_J2_get v7 (0 : Int32) h4) fun r9 h10 =>
    gd (isC h10 10 r9) <|
    bd (gtI h10 10 r9 0) fun v13 =>
    gd (isC h10 16 v6) <|
    bd2 (f_J2_get v6 v13 h10) fun r15 h16 =>
    gd (isC h16 9 r15) <|
    some ((some r15), h16)
  ) else (
    some (none, h4)
  )
theorem v_X2_first (D : va_G) (l : Launch) (hl : l.stackTraces = false) (as : List Value) (h0 : AH) {r : Option Nat} {hF : AH} (x0 : Nat) (x1 : Nat) (h : AH) (e : f_X2_first x0 x1 h = some (r, hF)) : V (G_X2_first D l as h0 hF (oO r)) h 0 [(0, .ref x0), (1, .ref x1)] [] := by
  unfold f_X2_first at e
  refine v_aload_n (pc' := 1) hc_X2_first dX2_first_0 rfl rfl 1 rfl ?_
  refine v_gnR (pc' := 4) hc_X2_first ho_X2_first KX5 2 (Nat.le_of_ble_eq_true rfl) q882 rfl dX2_first_1 rfl e (fun v1 _ e => ?_)
  obtain ⟨c2, e⟩ := gd_of e
  obtain ⟨r3, h4, e5, e⟩ := bd2_of e
  refine k_F (pc' := 9) (x := ⟨"java/util/List", "isEmpty", "()Z"⟩) (y := ⟨"java/util/ArrayList", "isEmpty", "()Z"⟩) (ci := 16) (n := 0) hc_X2_first ho_X2_first rfl c2 (w_J2_isEmpty D l hl v1 h e5) (wA_l q1323) (by decide +kernel) q1326 q1328 q79 q1330 hy_70 ⟨Nat.le_of_ble_eq_true rfl, Nat.le_of_ble_eq_true rfl⟩ rfl rfl (Nat.le_of_ble_eq_true rfl) dX2_first_4 rfl (kS ?_) kN
  refine v_if_eq (pt := 16) (pf := 12) hc_X2_first dX2_first_9 rfl rfl e (fun _ e => ?_) (fun _ e => ?_)
  · refine v_aload_n (pc' := 17) hc_X2_first dX2_first_16 rfl rfl 0 rfl ?_
    refine v_gfR (pc' := 20) hc_X2_first ho_X2_first KX2 2 (Nat.le_of_ble_eq_true rfl) q169 (Or.inl rfl) dX2_first_17 rfl e (fun v6 _ e => ?_)
    refine v_aload_n (pc' := 21) hc_X2_first dX2_first_20 rfl rfl 1 rfl ?_
    refine v_gnR (pc' := 24) hc_X2_first ho_X2_first KX5 2 (Nat.le_of_ble_eq_true rfl) q882 rfl dX2_first_21 rfl e (fun v7 _ e => ?_)
    refine v_iconst (pc' := 25) (v := 0) hc_X2_first dX2_first_24 rfl rfl ?_
    obtain ⟨c8, e⟩ := gd_of e
    obtain ⟨r9, h10, e11, e⟩ := bd2_of e
    refine k_F (pc' := 30) (x := ⟨"java/util/List", "get", "(I)Ljava/lang/Object;"⟩) (y := ⟨"java/util/ArrayList", "get", "(I)Ljava/lang/Object;"⟩) (ci := 16) (n := 1) hc_X2_first ho_X2_first rfl c8 (w_J2_get D l hl v7 (0 : Int32) h4 e11) (wA_l q515) (by decide +kernel) q401 q403 q79 q405 hy_23 ⟨Nat.le_of_ble_eq_true rfl, Nat.le_of_ble_eq_true rfl⟩ rfl rfl (Nat.le_of_ble_eq_true rfl) dX2_first_25 rfl (kS ?_) kN
    obtain ⟨c12, e⟩ := gd_of e
    refine v_cast (pc' := 33) (ci := 10) hc_X2_first ho_X2_first rfl q507 (Or.inl rfl) dX2_first_30 rfl c12 ?_
    refine v_gnI (pc' := 36) hc_X2_first ho_X2_first KX12 0 (Nat.le_of_ble_eq_true rfl) q1398 rfl dX2_first_33 rfl e (fun v13 _ e => ?_)
    obtain ⟨c14, e⟩ := gd_of e
    obtain ⟨r15, h16, e17, e⟩ := bd2_of e
    refine k_F (pc' := 41) (x := ⟨"java/util/List", "get", "(I)Ljava/lang/Object;"⟩) (y := ⟨"java/util/ArrayList", "get", "(I)Ljava/lang/Object;"⟩) (ci := 16) (n := 1) hc_X2_first ho_X2_first rfl c14 (w_J2_get D l hl v6 v13 h10 e17) (wA_l q515) (by decide +kernel) q401 q403 q79 q405 hy_23 ⟨Nat.le_of_ble_eq_true rfl, Nat.le_of_ble_eq_true rfl⟩ rfl rfl (Nat.le_of_ble_eq_true rfl) dX2_first_36 rfl (kS ?_) kN
    obtain ⟨c18, e⟩ := gd_of e
    refine v_cast (pc' := 44) (ci := 9) hc_X2_first ho_X2_first rfl q516 (Or.inl rfl) dX2_first_41 rfl c18 ?_
    obtain ⟨rfl, rfl⟩ := ret_of e
    exact v_aret hc_X2_first rfl (Or.inl ⟨_, rfl⟩) (Or.inr ⟨_, rfl⟩) dX2_first_44 rfl rfl
  · refine v_null (pc' := 13) hc_X2_first dX2_first_12 rfl ?_
    refine v_goto (pt := 44) hc_X2_first dX2_first_13 rfl ?_
    obtain ⟨rfl, rfl⟩ := ret_of e
    exact v_aret hc_X2_first rfl (Or.inl ⟨_, rfl⟩) (Or.inl rfl) dX2_first_44 rfl rfl
theorem w_X2_first (D : va_G) (l : Launch) (hl : l.stackTraces = false) (x0 : Nat) (x1 : Nat) (h : AH) {r : Option Nat} {hF : AH} (e : f_X2_first x0 x1 h = some (r, hF)) : MetV D l yX2_first (Cond.code yX2_first cX2_first 2 (Option.some (.object "BlockPapers$Roll"))) 4 112 [.ref x0, .ref x1] h hF (oO r) :=
  met_ofF (by decide +kernel) hl (Nat.le_of_ble_eq_true rfl) rfl (v_X2_first D l hl [.ref x0, .ref x1] h x0 x1 h e)
/-! BlockPapers$Room.isFull()Z  -/
abbrev G_X5_isFull (D : va_G) (l : Launch) (as : List Value) (h0 hF : AH) (o : Out) : CT := (D, l, (yX5_isFull.cls, yX5_isFull, cX5_isFull, 1, (Option.some .boolean), 2, 68, []), as, h0, hF, o)
theorem hc_X5_isFull {D : va_G} {l : Launch} {as : List Value} {h0 hF : AH} {o : Out} : gC (G_X5_isFull D l as h0 hF o) = cX5_isFull := rfl
theorem ho_X5_isFull {D : va_G} {l : Launch} {as : List Value} {h0 hF : AH} {o : Out} : gO (G_X5_isFull D l as h0 hF o) = "BlockPapers$Room" := rfl
theorem hp_X5_isFull {D : va_G} {l : Launch} {as : List Value} {h0 hF : AH} {o : Out} (pc : Nat) : ∀ z ∈ tableOf (gHd (G_X5_isFull D l as h0 hF o)), covers z pc = false := hpN
def f_X5_isFull (x0 : Nat) (h : AH) : Option (Int32 × AH) :=
  bd (gtR h 4 x0 2) fun v1 =>
  gd (isC h 16 v1) <|
  bd2 (f_J2_size v1 h) fun r3 h4 =>
  bd (gtI h4 4 x0 1) fun v6 =>
  if r3 = v6 then (
    some ((1 : Int32), h4)
  ) else (
    some ((0 : Int32), h4)
  )
theorem v_X5_isFull (D : va_G) (l : Launch) (hl : l.stackTraces = false) (as : List Value) (h0 : AH) {r : Int32} {hF : AH} (x0 : Nat) (h : AH) (e : f_X5_isFull x0 h = some (r, hF)) : V (G_X5_isFull D l as h0 hF (oI r)) h 0 [(0, .ref x0)] [] := by
  unfold f_X5_isFull at e
  refine v_aload_n (pc' := 1) hc_X5_isFull dX5_isFull_0 rfl rfl 0 rfl ?_
  refine v_gfR (pc' := 4) hc_X5_isFull ho_X5_isFull KX5 2 (Nat.le_of_ble_eq_true rfl) q879 (Or.inl rfl) dX5_isFull_1 rfl e (fun v1 _ e => ?_)
  obtain ⟨c2, e⟩ := gd_of e
  obtain ⟨r3, h4, e5, e⟩ := bd2_of e
  refine k_F (pc' := 9) (x := ⟨"java/util/List", "size", "()I"⟩) (y := ⟨"java/util/ArrayList", "size", "()I"⟩) (ci := 16) (n := 0) hc_X5_isFull ho_X5_isFull rfl c2 (w_J2_size D l hl v1 h e5) (wA_l q550) (by decide +kernel) q348 q350 q79 q352 hy_19 ⟨Nat.le_of_ble_eq_true rfl, Nat.le_of_ble_eq_true rfl⟩ rfl rfl (Nat.le_of_ble_eq_true rfl) dX5_isFull_4 rfl (kS ?_) kN
  refine v_aload_n (pc' := 10) hc_X5_isFull dX5_isFull_9 rfl rfl 0 rfl ?_
  refine v_gfI (pc' := 13) hc_X5_isFull ho_X5_isFull KX5 1 (Nat.le_of_ble_eq_true rfl) q876 (Or.inl rfl) dX5_isFull_10 rfl e (fun v6 _ e => ?_)
  refine v_icmp_ne (pt := 20) (pf := 16) hc_X5_isFull dX5_isFull_13 rfl rfl e (fun _ e => ?_) (fun _ e => ?_)
  · refine v_iconst (pc' := 17) (v := 1) hc_X5_isFull dX5_isFull_16 rfl rfl ?_
    refine v_goto (pt := 21) hc_X5_isFull dX5_isFull_17 rfl ?_
    obtain ⟨rfl, rfl⟩ := ret_of e
    exact v_zret hc_X5_isFull rfl (ft := .boolean) rfl dX5_isFull_21 rfl rfl
  · refine v_iconst (pc' := 21) (v := 0) hc_X5_isFull dX5_isFull_20 rfl rfl ?_
    obtain ⟨rfl, rfl⟩ := ret_of e
    exact v_zret hc_X5_isFull rfl (ft := .boolean) rfl dX5_isFull_21 rfl rfl
theorem w_X5_isFull (D : va_G) (l : Launch) (hl : l.stackTraces = false) (x0 : Nat) (h : AH) {r : Int32} {hF : AH} (e : f_X5_isFull x0 h = some (r, hF)) : MetV D l yX5_isFull (Cond.code yX5_isFull cX5_isFull 1 (Option.some .boolean)) 2 68 [.ref x0] h hF (oI r) :=
  met_ofF (by decide +kernel) hl (Nat.le_of_ble_eq_true rfl) rfl (v_X5_isFull D l hl [.ref x0] h x0 h e)
/-! BlockPapers$Room.last()LBlockPapers$Drop;  -/
abbrev G_X5_last (D : va_G) (l : Launch) (as : List Value) (h0 hF : AH) (o : Out) : CT := (D, l, (yX5_last.cls, yX5_last, cX5_last, 1, (Option.some (.object "BlockPapers$Drop")), 4, 112, []), as, h0, hF, o)
theorem hc_X5_last {D : va_G} {l : Launch} {as : List Value} {h0 hF : AH} {o : Out} : gC (G_X5_last D l as h0 hF o) = cX5_last := rfl
theorem ho_X5_last {D : va_G} {l : Launch} {as : List Value} {h0 hF : AH} {o : Out} : gO (G_X5_last D l as h0 hF o) = "BlockPapers$Room" := rfl
theorem hp_X5_last {D : va_G} {l : Launch} {as : List Value} {h0 hF : AH} {o : Out} (pc : Nat) : ∀ z ∈ tableOf (gHd (G_X5_last D l as h0 hF o)), covers z pc = false := hpN
def f_X5_last (x0 : Nat) (h : AH) : Option (Nat × AH) :=
  bd (gtR h 4 x0 2) fun v1 =>
  bd (gtR h 4 x0 2) fun v2 =>
  gd (isC h 16 v2) <|
  bd2 (f_J2_size v2 h) fun r4 h5 =>
  gd (isC h5 16 v1) <|
  bd2 (f_J2_get v1 (r4 - (1 : Int32)) h5) fun r8 h9 =>
  gd (isC h9 10 r8) <|
  some (r8, h9)
theorem v_X5_last (D : va_G) (l : Launch) (hl : l.stackTraces = false) (as : List Value) (h0 : AH) {r : Nat} {hF : AH} (x0 : Nat) (h : AH) (e : f_X5_last x0 h = some (r, hF)) : V (G_X5_last D l as h0 hF (oR r)) h 0 [(0, .ref x0)] [] := by
  unfold f_X5_last at e
  refine v_aload_n (pc' := 1) hc_X5_last dX5_last_0 rfl rfl 0 rfl ?_
  refine v_gfR (pc' := 4) hc_X5_last ho_X5_last KX5 2 (Nat.le_of_ble_eq_true rfl) q879 (Or.inl rfl) dX5_last_1 rfl e (fun v1 _ e => ?_)
  refine v_aload_n (pc' := 5) hc_X5_last dX5_last_4 rfl rfl 0 rfl ?_
  refine v_gfR (pc' := 8) hc_X5_last ho_X5_last KX5 2 (Nat.le_of_ble_eq_true rfl) q879 (Or.inl rfl) dX5_last_5 rfl e (fun v2 _ e => ?_)
  obtain ⟨c3, e⟩ := gd_of e
  obtain ⟨r4, h5, e6, e⟩ := bd2_of e
  refine k_F (pc' := 13) (x := ⟨"java/util/List", "size", "()I"⟩) (y := ⟨"java/util/ArrayList", "size", "()I"⟩) (ci := 16) (n := 0) hc_X5_last ho_X5_last rfl c3 (w_J2_size D l hl v2 h e6) (wA_l q550) (by decide +kernel) q348 q350 q79 q352 hy_19 ⟨Nat.le_of_ble_eq_true rfl, Nat.le_of_ble_eq_true rfl⟩ rfl rfl (Nat.le_of_ble_eq_true rfl) dX5_last_8 rfl (kS ?_) kN
  refine v_iconst (pc' := 14) (v := 1) hc_X5_last dX5_last_13 rfl rfl ?_
  refine v_isub (pc' := 15) hc_X5_last dX5_last_14 rfl ?_
  obtain ⟨c7, e⟩ := gd_of e
  obtain ⟨r8, h9, e10, e⟩ := bd2_of e
  refine k_F (pc' := 20) (x := ⟨"java/util/List", "get", "(I)Ljava/lang/Object;"⟩) (y := ⟨"java/util/ArrayList", "get", "(I)Ljava/lang/Object;"⟩) (ci := 16) (n := 1) hc_X5_last ho_X5_last rfl c7 (w_J2_get D l hl v1 (r4 - (1 : Int32)) h5 e10) (wA_l q1340) (by decide +kernel) q401 q403 q79 q405 hy_23 ⟨Nat.le_of_ble_eq_true rfl, Nat.le_of_ble_eq_true rfl⟩ rfl rfl (Nat.le_of_ble_eq_true rfl) dX5_last_15 rfl (kS ?_) kN
  obtain ⟨c11, e⟩ := gd_of e
  refine v_cast (pc' := 23) (ci := 10) hc_X5_last ho_X5_last rfl q1341 (Or.inl rfl) dX5_last_20 rfl c11 ?_
  obtain ⟨rfl, rfl⟩ := ret_of e
  exact v_aret hc_X5_last rfl (Or.inl ⟨_, rfl⟩) (Or.inr ⟨_, rfl⟩) dX5_last_23 rfl rfl
theorem w_X5_last (D : va_G) (l : Launch) (hl : l.stackTraces = false) (x0 : Nat) (h : AH) {r : Nat} {hF : AH} (e : f_X5_last x0 h = some (r, hF)) : MetV D l yX5_last (Cond.code yX5_last cX5_last 1 (Option.some (.object "BlockPapers$Drop"))) 4 112 [.ref x0] h hF (oR r) :=
  met_ofF (by decide +kernel) hl (Nat.le_of_ble_eq_true rfl) rfl (v_X5_last D l hl [.ref x0] h x0 h e)
/-! BlockPapers$Workshop.unlike(LBlockPapers$Room;LBlockPapers$Roll;)I  -/
abbrev G_X2_unlike (D : va_G) (l : Launch) (as : List Value) (h0 hF : AH) (o : Out) : CT := (D, l, (yX2_unlike.cls, yX2_unlike, cX2_unlike, 3, (Option.some .int), 5, 132, []), as, h0, hF, o)
theorem hc_X2_unlike {D : va_G} {l : Launch} {as : List Value} {h0 hF : AH} {o : Out} : gC (G_X2_unlike D l as h0 hF o) = cX2_unlike := rfl
theorem ho_X2_unlike {D : va_G} {l : Launch} {as : List Value} {h0 hF : AH} {o : Out} : gO (G_X2_unlike D l as h0 hF o) = "BlockPapers$Workshop" := rfl
theorem hp_X2_unlike {D : va_G} {l : Launch} {as : List Value} {h0 hF : AH} {o : Out} (pc : Nat) : ∀ z ∈ tableOf (gHd (G_X2_unlike D l as h0 hF o)), covers z pc = false := hpN
def f_X2_unlike (x0 : Nat) (x1 : Nat) (x2 : Nat) (h : AH) : Option (Int32 × AH) :=
  bd (gtR h 4 x1 2) fun v1 =>
  gd (isC h 16 v1) <|
  bd2 (f_J2_isEmpty v1 h) fun r3 h4 =>
  if r3 = 0 then (
    gd (isC h4 4 x1) <|
    bd2 (f_X5_last x1 h4) fun r7 h8 =>
    bd (gtI h8 10 r7 2) fun v10 =>
    bd (gtI h8 9 x2 3) fun v11 =>
    bd2 (f_J15_abs (v10 - v11) h8) fun r12 h13 =>
    some (r12, h13)
  ) else (
    some ((0 : Int32), h4)
  )
theorem v_X2_unlike (D : va_G) (l : Launch) (hl : l.stackTraces = false) (as : List Value) (h0 : AH) {r : Int32} {hF : AH} (x0 : Nat) (x1 : Nat) (x2 : Nat) (h : AH) (e : f_X2_unlike x0 x1 x2 h = some (r, hF)) : V (G_X2_unlike D l as h0 hF (oI r)) h 0 [(0, .ref x0), (1, .ref x1), (2, .ref x2)] [] := by
  unfold f_X2_unlike at e
  refine v_aload_n (pc' := 1) hc_X2_unlike dX2_unlike_0 rfl rfl 1 rfl ?_
  refine v_gnR (pc' := 4) hc_X2_unlike ho_X2_unlike KX5 2 (Nat.le_of_ble_eq_true rfl) q882 rfl dX2_unlike_1 rfl e (fun v1 _ e => ?_)
  obtain ⟨c2, e⟩ := gd_of e
  obtain ⟨r3, h4, e5, e⟩ := bd2_of e
  refine k_F (pc' := 9) (x := ⟨"java/util/List", "isEmpty", "()Z"⟩) (y := ⟨"java/util/ArrayList", "isEmpty", "()Z"⟩) (ci := 16) (n := 0) hc_X2_unlike ho_X2_unlike rfl c2 (w_J2_isEmpty D l hl v1 h e5) (wA_l q1323) (by decide +kernel) q1326 q1328 q79 q1330 hy_70 ⟨Nat.le_of_ble_eq_true rfl, Nat.le_of_ble_eq_true rfl⟩ rfl rfl (Nat.le_of_ble_eq_true rfl) dX2_unlike_4 rfl (kS ?_) kN
  refine v_if_eq (pt := 16) (pf := 12) hc_X2_unlike dX2_unlike_9 rfl rfl e (fun _ e => ?_) (fun _ e => ?_)
  · refine v_aload_n (pc' := 17) hc_X2_unlike dX2_unlike_16 rfl rfl 1 rfl ?_
    obtain ⟨c6, e⟩ := gd_of e
    obtain ⟨r7, h8, e9, e⟩ := bd2_of e
    refine k_V (pc' := 20) (ci := 4) (n := 0) hc_X2_unlike ho_X2_unlike rfl c6 (w_X5_last D l hl x1 h4 e9) (wA_l q1335) q1336 (wA_l q1337) q99 q1338 hy_73 ⟨Nat.le_of_ble_eq_true rfl, Nat.le_of_ble_eq_true rfl⟩ rfl rfl (Nat.le_of_ble_eq_true rfl) dX2_unlike_17 rfl (kS ?_) kN
    refine v_gnI (pc' := 23) hc_X2_unlike ho_X2_unlike KX12 2 (Nat.le_of_ble_eq_true rfl) q1404 rfl dX2_unlike_20 rfl e (fun v10 _ e => ?_)
    refine v_aload_n (pc' := 24) hc_X2_unlike dX2_unlike_23 rfl rfl 2 rfl ?_
    refine v_gnI (pc' := 27) hc_X2_unlike ho_X2_unlike KX10 3 (Nat.le_of_ble_eq_true rfl) q1249 rfl dX2_unlike_24 rfl e (fun v11 _ e => ?_)
    refine v_isub (pc' := 28) hc_X2_unlike dX2_unlike_27 rfl ?_
    obtain ⟨r12, h13, e14, e⟩ := bd2_of e
    refine k_S (pc' := 31) (n := 1) hc_X2_unlike ho_X2_unlike (w_J15_abs D l hl (v10 - v11) h8 e14) (wA_l q1293) q1294 q95 q1295 hy_65 ⟨Nat.le_of_ble_eq_true rfl, Nat.le_of_ble_eq_true rfl⟩ rfl rfl (Nat.le_of_ble_eq_true rfl) dX2_unlike_28 rfl (kS ?_) kN
    obtain ⟨rfl, rfl⟩ := ret_of e
    exact v_iret hc_X2_unlike rfl dX2_unlike_31 rfl rfl
  · refine v_iconst (pc' := 13) (v := 0) hc_X2_unlike dX2_unlike_12 rfl rfl ?_
    refine v_goto (pt := 31) hc_X2_unlike dX2_unlike_13 rfl ?_
    obtain ⟨rfl, rfl⟩ := ret_of e
    exact v_iret hc_X2_unlike rfl dX2_unlike_31 rfl rfl
theorem w_X2_unlike (D : va_G) (l : Launch) (hl : l.stackTraces = false) (x0 : Nat) (x1 : Nat) (x2 : Nat) (h : AH) {r : Int32} {hF : AH} (e : f_X2_unlike x0 x1 x2 h = some (r, hF)) : MetV D l yX2_unlike (Cond.code yX2_unlike cX2_unlike 3 (Option.some .int)) 5 132 [.ref x0, .ref x1, .ref x2] h hF (oI r) :=
  met_ofF (by decide +kernel) hl (Nat.le_of_ble_eq_true rfl) rfl (v_X2_unlike D l hl [.ref x0, .ref x1, .ref x2] h x0 x1 x2 h e)
/-! BlockPapers$Block.repeat()I  -/
abbrev G_X8_repeat (D : va_G) (l : Launch) (as : List Value) (h0 hF : AH) (o : Out) : CT := (D, l, (yX8_repeat.cls, yX8_repeat, cX8_repeat, 1, (Option.some .int), 1, 48, []), as, h0, hF, o)
theorem hc_X8_repeat {D : va_G} {l : Launch} {as : List Value} {h0 hF : AH} {o : Out} : gC (G_X8_repeat D l as h0 hF o) = cX8_repeat := rfl
theorem ho_X8_repeat {D : va_G} {l : Launch} {as : List Value} {h0 hF : AH} {o : Out} : gO (G_X8_repeat D l as h0 hF o) = "BlockPapers$Block" := rfl
theorem hp_X8_repeat {D : va_G} {l : Launch} {as : List Value} {h0 hF : AH} {o : Out} (pc : Nat) : ∀ z ∈ tableOf (gHd (G_X8_repeat D l as h0 hF o)), covers z pc = false := hpN
def f_X8_repeat (x0 : Nat) (h : AH) : Option (Int32 × AH) :=
  bd (gtI h 7 x0 0) fun v1 =>
  some (v1, h)
theorem v_X8_repeat (D : va_G) (l : Launch) (hl : l.stackTraces = false) (as : List Value) (h0 : AH) {r : Int32} {hF : AH} (x0 : Nat) (h : AH) (e : f_X8_repeat x0 h = some (r, hF)) : V (G_X8_repeat D l as h0 hF (oI r)) h 0 [(0, .ref x0)] [] := by
  unfold f_X8_repeat at e
  refine v_aload_n (pc' := 1) hc_X8_repeat dX8_repeat_0 rfl rfl 0 rfl ?_
  refine v_gfI (pc' := 4) hc_X8_repeat ho_X8_repeat KX8 0 (Nat.le_of_ble_eq_true rfl) q1129 (Or.inl rfl) dX8_repeat_1 rfl e (fun v1 _ e => ?_)
  obtain ⟨rfl, rfl⟩ := ret_of e
  exact v_iret hc_X8_repeat rfl dX8_repeat_4 rfl rfl
theorem w_X8_repeat (D : va_G) (l : Launch) (hl : l.stackTraces = false) (x0 : Nat) (h : AH) {r : Int32} {hF : AH} (e : f_X8_repeat x0 h = some (r, hF)) : MetV D l yX8_repeat (Cond.code yX8_repeat cX8_repeat 1 (Option.some .int)) 1 48 [.ref x0] h hF (oI r) :=
  met_ofF (by decide +kernel) hl (Nat.le_of_ble_eq_true rfl) rfl (v_X8_repeat D l hl [.ref x0] h x0 h e)
/-! BlockPapers$Patterned.remainder(II)I  -/
abbrev G_X11_remainder (D : va_G) (l : Launch) (as : List Value) (h0 hF : AH) (o : Out) : CT := (D, l, (yX11_remainder.cls, yX11_remainder, cX11_remainder, 2, (Option.some .int), 1, 48, []), as, h0, hF, o)
theorem hc_X11_remainder {D : va_G} {l : Launch} {as : List Value} {h0 hF : AH} {o : Out} : gC (G_X11_remainder D l as h0 hF o) = cX11_remainder := rfl
theorem ho_X11_remainder {D : va_G} {l : Launch} {as : List Value} {h0 hF : AH} {o : Out} : gO (G_X11_remainder D l as h0 hF o) = "BlockPapers$Patterned" := rfl
theorem hp_X11_remainder {D : va_G} {l : Launch} {as : List Value} {h0 hF : AH} {o : Out} (pc : Nat) : ∀ z ∈ tableOf (gHd (G_X11_remainder D l as h0 hF o)), covers z pc = false := hpN
def f_X11_remainder (x0 : Int32) (x1 : Int32) (h : AH) : Option (Int32 × AH) :=
  gd (decide (¬ x1 = 0)) <|
  some ((x0 - x0 / x1 * x1), h)
theorem v_X11_remainder (D : va_G) (l : Launch) (hl : l.stackTraces = false) (as : List Value) (h0 : AH) {r : Int32} {hF : AH} (x0 : Int32) (x1 : Int32) (h : AH) (e : f_X11_remainder x0 x1 h = some (r, hF)) : V (G_X11_remainder D l as h0 hF (oI r)) h 0 [(0, .int x0), (1, .int x1)] [] := by
  unfold f_X11_remainder at e
  refine v_iload_n (pc' := 1) hc_X11_remainder dX11_remainder_0 rfl rfl 0 rfl ?_
  refine v_iload_n (pc' := 2) hc_X11_remainder dX11_remainder_1 rfl rfl 1 rfl ?_
  obtain ⟨c1, e⟩ := gd_of e
  refine v_irem (pc' := 3) hc_X11_remainder dX11_remainder_2 rfl (of_decide_eq_true c1) ?_
  obtain ⟨rfl, rfl⟩ := ret_of e
  exact v_iret hc_X11_remainder rfl dX11_remainder_3 rfl rfl
theorem w_X11_remainder (D : va_G) (l : Launch) (hl : l.stackTraces = false) (x0 : Int32) (x1 : Int32) (h : AH) {r : Int32} {hF : AH} (e : f_X11_remainder x0 x1 h = some (r, hF)) : MetV D l yX11_remainder (Cond.code yX11_remainder cX11_remainder 2 (Option.some .int)) 1 48 [.int x0, .int x1] h hF (oI r) :=
  met_ofF (by decide +kernel) hl (Nat.le_of_ble_eq_true rfl) rfl (v_X11_remainder D l hl [.int x0, .int x1] h x0 x1 h e)
/-! BlockPapers$Patterned.within(I)I  -/
abbrev G_X11_within (D : va_G) (l : Launch) (as : List Value) (h0 hF : AH) (o : Out) : CT := (D, l, (yX11_within.cls, yX11_within, cX11_within, 2, (Option.some .int), 2, 69, []), as, h0, hF, o)
theorem hc_X11_within {D : va_G} {l : Launch} {as : List Value} {h0 hF : AH} {o : Out} : gC (G_X11_within D l as h0 hF o) = cX11_within := rfl
theorem ho_X11_within {D : va_G} {l : Launch} {as : List Value} {h0 hF : AH} {o : Out} : gO (G_X11_within D l as h0 hF o) = "BlockPapers$Patterned" := rfl
theorem hp_X11_within {D : va_G} {l : Launch} {as : List Value} {h0 hF : AH} {o : Out} (pc : Nat) : ∀ z ∈ tableOf (gHd (G_X11_within D l as h0 hF o)), covers z pc = false := hpN
def f_X11_within (x0 : Nat) (x1 : Int32) (h : AH) : Option (Int32 × AH) :=
  gd (isC h 7 x0) <|
  bd2 (f_X8_repeat x0 h) fun r2 h3 =>
  bd2 (f_X11_remainder x1 r2 h3) fun r5 h6 =>
  some (r5, h6)
theorem v_X11_within (D : va_G) (l : Launch) (hl : l.stackTraces = false) (as : List Value) (h0 : AH) {r : Int32} {hF : AH} (x0 : Nat) (x1 : Int32) (h : AH) (e : f_X11_within x0 x1 h = some (r, hF)) : V (G_X11_within D l as h0 hF (oI r)) h 0 [(0, .ref x0), (1, .int x1)] [] := by
  unfold f_X11_within at e
  refine v_iload_n (pc' := 1) hc_X11_within dX11_within_0 rfl rfl 1 rfl ?_
  refine v_aload_n (pc' := 2) hc_X11_within dX11_within_1 rfl rfl 0 rfl ?_
  obtain ⟨c1, e⟩ := gd_of e
  obtain ⟨r2, h3, e4, e⟩ := bd2_of e
  refine k_F (pc' := 7) (x := ⟨"BlockPapers$Patterned", "repeat", "()I"⟩) (y := ⟨"BlockPapers$Block", "repeat", "()I"⟩) (ci := 7) (n := 0) hc_X11_within ho_X11_within rfl c1 (w_X8_repeat D l hl x0 h e4) (wA_l q1360) (by decide +kernel) q1364 q1366 q107 q1368 hy_75 ⟨Nat.le_of_ble_eq_true rfl, Nat.le_of_ble_eq_true rfl⟩ rfl rfl (Nat.le_of_ble_eq_true rfl) dX11_within_2 rfl (kS ?_) kN
  obtain ⟨r5, h6, e7, e⟩ := bd2_of e
  refine k_S (pc' := 10) (n := 2) hc_X11_within ho_X11_within (w_X11_remainder D l hl x1 r2 h3 e7) (wA_l q1369) q1370 q110 q1371 hy_76 ⟨Nat.le_of_ble_eq_true rfl, Nat.le_of_ble_eq_true rfl⟩ rfl rfl (Nat.le_of_ble_eq_true rfl) dX11_within_7 rfl (kS ?_) kN
  obtain ⟨rfl, rfl⟩ := ret_of e
  exact v_iret hc_X11_within rfl dX11_within_10 rfl rfl
theorem w_X11_within (D : va_G) (l : Launch) (hl : l.stackTraces = false) (x0 : Nat) (x1 : Int32) (h : AH) {r : Int32} {hF : AH} (e : f_X11_within x0 x1 h = some (r, hF)) : MetV D l yX11_within (Cond.code yX11_within cX11_within 2 (Option.some .int)) 2 69 [.ref x0, .int x1] h hF (oI r) :=
  met_ofF (by decide +kernel) hl (Nat.le_of_ble_eq_true rfl) rfl (v_X11_within D l hl [.ref x0, .int x1] h x0 x1 h e)
/-! BlockPapers$Block.begin(II)I  -/
abbrev G_X8_begin (D : va_G) (l : Launch) (as : List Value) (h0 hF : AH) (o : Out) : CT := (D, l, (yX8_begin.cls, yX8_begin, cX8_begin, 3, (Option.some .int), 3, 90, []), as, h0, hF, o)
theorem hc_X8_begin {D : va_G} {l : Launch} {as : List Value} {h0 hF : AH} {o : Out} : gC (G_X8_begin D l as h0 hF o) = cX8_begin := rfl
theorem ho_X8_begin {D : va_G} {l : Launch} {as : List Value} {h0 hF : AH} {o : Out} : gO (G_X8_begin D l as h0 hF o) = "BlockPapers$Block" := rfl
theorem hp_X8_begin {D : va_G} {l : Launch} {as : List Value} {h0 hF : AH} {o : Out} (pc : Nat) : ∀ z ∈ tableOf (gHd (G_X8_begin D l as h0 hF o)), covers z pc = false := hpN
def f_X8_begin (x0 : Nat) (x1 : Int32) (x2 : Int32) (h : AH) : Option (Int32 × AH) :=
  bd (gtI h 7 x0 1) fun v1 =>
  if v1 = 0 then (
    some (x1, h)
  ) else (
    if (x2 - x2 / (2 : Int32) * (2 : Int32)) = (1 : Int32) then (
      bd (gtI h 7 x0 0) fun v2 =>
      gd (isC h 7 x0) <|
      bd2 (f_X11_within x0 (x1 + (v2 / (2 : Int32))) h) fun r4 h5 =>
      some (r4, h5)
    ) else (
      some (x1, h)
    )
  )
theorem v_X8_begin (D : va_G) (l : Launch) (hl : l.stackTraces = false) (as : List Value) (h0 : AH) {r : Int32} {hF : AH} (x0 : Nat) (x1 : Int32) (x2 : Int32) (h : AH) (e : f_X8_begin x0 x1 x2 h = some (r, hF)) : V (G_X8_begin D l as h0 hF (oI r)) h 0 [(0, .ref x0), (1, .int x1), (2, .int x2)] [] := by
  unfold f_X8_begin at e
  refine v_aload_n (pc' := 1) hc_X8_begin dX8_begin_0 rfl rfl 0 rfl ?_
  refine v_gfI (pc' := 4) hc_X8_begin ho_X8_begin KX8 1 (Nat.le_of_ble_eq_true rfl) q1131 (Or.inl rfl) dX8_begin_1 rfl e (fun v1 _ e => ?_)
  refine v_if_eq (pt := 29) (pf := 7) hc_X8_begin dX8_begin_4 rfl rfl e (fun _ e => ?_) (fun _ e => ?_)
  · refine v_iload_n (pc' := 30) hc_X8_begin dX8_begin_29 rfl rfl 1 rfl ?_
    obtain ⟨rfl, rfl⟩ := ret_of e
    exact v_iret hc_X8_begin rfl dX8_begin_30 rfl rfl
  · refine v_iload_n (pc' := 8) hc_X8_begin dX8_begin_7 rfl rfl 2 rfl ?_
    refine v_iconst (pc' := 9) (v := 2) hc_X8_begin dX8_begin_8 rfl rfl ?_
    refine v_irem (pc' := 10) hc_X8_begin dX8_begin_9 rfl (by decide) ?_
    refine v_iconst (pc' := 11) (v := 1) hc_X8_begin dX8_begin_10 rfl rfl ?_
    refine v_icmp_ne (pt := 29) (pf := 14) hc_X8_begin dX8_begin_11 rfl rfl e (fun _ e => ?_) (fun _ e => ?_)
    · refine v_aload_n (pc' := 15) hc_X8_begin dX8_begin_14 rfl rfl 0 rfl ?_
      refine v_iload_n (pc' := 16) hc_X8_begin dX8_begin_15 rfl rfl 1 rfl ?_
      refine v_aload_n (pc' := 17) hc_X8_begin dX8_begin_16 rfl rfl 0 rfl ?_
      refine v_gfI (pc' := 20) hc_X8_begin ho_X8_begin KX8 0 (Nat.le_of_ble_eq_true rfl) q1129 (Or.inl rfl) dX8_begin_17 rfl e (fun v2 _ e => ?_)
      refine v_iconst (pc' := 21) (v := 2) hc_X8_begin dX8_begin_20 rfl rfl ?_
      refine v_idiv (pc' := 22) hc_X8_begin dX8_begin_21 rfl (by decide) ?_
      refine v_iadd (pc' := 23) hc_X8_begin dX8_begin_22 rfl ?_
      obtain ⟨c3, e⟩ := gd_of e
      obtain ⟨r4, h5, e6, e⟩ := bd2_of e
      refine k_D (pc' := 26) (x := ⟨"BlockPapers$Block", "within", "(I)I"⟩) (owner := "BlockPapers$Patterned") (ci := 7) (n := 1) hc_X8_begin ho_X8_begin rfl c3 (w_X11_within D l hl x0 (x1 + (v2 / (2 : Int32))) h e6) qdf0 qdf1 q1354 (by decide +kernel) q1356 q110 q1358 ⟨by decide +kernel, by decide +kernel, by decide +kernel⟩ ⟨Nat.le_of_ble_eq_true rfl, Nat.le_of_ble_eq_true rfl⟩ rfl rfl (Nat.le_of_ble_eq_true rfl) dX8_begin_23 rfl (kD ?_)
      refine v_goto (pt := 30) hc_X8_begin dX8_begin_26 rfl ?_
      obtain ⟨rfl, rfl⟩ := ret_of e
      exact v_iret hc_X8_begin rfl dX8_begin_30 rfl rfl
    · refine v_iload_n (pc' := 30) hc_X8_begin dX8_begin_29 rfl rfl 1 rfl ?_
      obtain ⟨rfl, rfl⟩ := ret_of e
      exact v_iret hc_X8_begin rfl dX8_begin_30 rfl rfl
theorem w_X8_begin (D : va_G) (l : Launch) (hl : l.stackTraces = false) (x0 : Nat) (x1 : Int32) (x2 : Int32) (h : AH) {r : Int32} {hF : AH} (e : f_X8_begin x0 x1 x2 h = some (r, hF)) : MetV D l yX8_begin (Cond.code yX8_begin cX8_begin 3 (Option.some .int)) 3 90 [.ref x0, .int x1, .int x2] h hF (oI r) :=
  met_ofF (by decide +kernel) hl (Nat.le_of_ble_eq_true rfl) rfl (v_X8_begin D l hl [.ref x0, .int x1, .int x2] h x0 x1 x2 h e)
/-! BlockPapers$Workshop.begin(LBlockPapers$Room;I)I  -/
abbrev G_X2_begin (D : va_G) (l : Launch) (as : List Value) (h0 hF : AH) (o : Out) : CT := (D, l, (yX2_begin.cls, yX2_begin, cX2_begin, 3, (Option.some .int), 5, 133, []), as, h0, hF, o)
theorem hc_X2_begin {D : va_G} {l : Launch} {as : List Value} {h0 hF : AH} {o : Out} : gC (G_X2_begin D l as h0 hF o) = cX2_begin := rfl
theorem ho_X2_begin {D : va_G} {l : Launch} {as : List Value} {h0 hF : AH} {o : Out} : gO (G_X2_begin D l as h0 hF o) = "BlockPapers$Workshop" := rfl
theorem hp_X2_begin {D : va_G} {l : Launch} {as : List Value} {h0 hF : AH} {o : Out} (pc : Nat) : ∀ z ∈ tableOf (gHd (G_X2_begin D l as h0 hF o)), covers z pc = false := hpN
def f_X2_begin (x0 : Nat) (x1 : Nat) (x2 : Int32) (h : AH) : Option (Int32 × AH) :=
  if x2 = 0 then (
    some ((-1 : Int32), h)
  ) else (
    bd (gtR h 1 x0 0) fun v1 =>
    gd (isC h 1 x0) <|
    bd2 (f_X2_first x0 x1 h) fun r3 h4 =>
    optR r3 (
      none
    ) fun v6 =>
    bd (gtI h4 9 v6 0) fun v7 =>
    gd (isC h4 16 v1) <|
    bd2 (f_J2_get v1 v7 h4) fun r9 h10 =>
    gd (isC h10 7 r9) <|
    bd (gtR h10 4 x1 2) fun v13 =>
    gd (isC h10 16 v13) <|
    bd2 (f_J2_get v13 (0 : Int32) h10) fun r15 h16 =>
    gd (isC h16 10 r15) <|
    bd (gtI h16 10 r15 1) fun v19 =>
    gd (isC h16 7 r9) <|
    bd2 (f_X8_begin r9 v19 x2 h16) fun r21 h22 =>
    some (r21, h22)
  )
theorem v_X2_begin (D : va_G) (l : Launch) (hl : l.stackTraces = false) (as : List Value) (h0 : AH) {r : Int32} {hF : AH} (x0 : Nat) (x1 : Nat) (x2 : Int32) (h : AH) (e : f_X2_begin x0 x1 x2 h = some (r, hF)) : V (G_X2_begin D l as h0 hF (oI r)) h 0 [(0, .ref x0), (1, .ref x1), (2, .int x2)] [] := by
  unfold f_X2_begin at e
  refine v_iload_n (pc' := 1) hc_X2_begin dX2_begin_0 rfl rfl 2 rfl ?_
  refine v_if_ne (pt := 8) (pf := 4) hc_X2_begin dX2_begin_1 rfl rfl e (fun _ e => ?_) (fun _ e => ?_)
  · refine v_iconst (pc' := 5) (v := (-1)) hc_X2_begin dX2_begin_4 rfl rfl ?_
    refine v_goto (pt := 48) hc_X2_begin dX2_begin_5 rfl ?_
    obtain ⟨rfl, rfl⟩ := ret_of e
    exact v_iret hc_X2_begin rfl dX2_begin_48 rfl rfl
  · refine v_aload_n (pc' := 9) hc_X2_begin dX2_begin_8 rfl rfl 0 rfl ?_
    refine v_gfR (pc' := 12) hc_X2_begin ho_X2_begin KX2 0 (Nat.le_of_ble_eq_true rfl) q164 (Or.inl rfl) dX2_begin_9 rfl e (fun v1 _ e => ?_)
    refine v_aload_n (pc' := 13) hc_X2_begin dX2_begin_12 rfl rfl 0 rfl ?_
    refine v_aload_n (pc' := 14) hc_X2_begin dX2_begin_13 rfl rfl 1 rfl ?_
    obtain ⟨c2, e⟩ := gd_of e
    obtain ⟨r3, h4, e5, e⟩ := bd2_of e
    replace e := optR_of e
    rcases e with ⟨z, e⟩ | ⟨v6, z, e⟩
    · subst z
      refine k_V (pc' := 17) (ci := 1) (n := 1) hc_X2_begin ho_X2_begin rfl c2 (w_X2_first D l hl x0 x1 h e5) (wA_l q1318) q1319 (wA_l q1320) q76 q1321 hy_71 ⟨Nat.le_of_ble_eq_true rfl, Nat.le_of_ble_eq_true rfl⟩ rfl rfl (Nat.le_of_ble_eq_true rfl) dX2_begin_14 rfl (kS ?_) kN
      exact nomatch e
    · subst z
      refine k_V (pc' := 17) (ci := 1) (n := 1) hc_X2_begin ho_X2_begin rfl c2 (w_X2_first D l hl x0 x1 h e5) (wA_l q1318) q1319 (wA_l q1320) q76 q1321 hy_71 ⟨Nat.le_of_ble_eq_true rfl, Nat.le_of_ble_eq_true rfl⟩ rfl rfl (Nat.le_of_ble_eq_true rfl) dX2_begin_14 rfl (kS ?_) kN
      refine v_gnI (pc' := 20) hc_X2_begin ho_X2_begin KX10 0 (Nat.le_of_ble_eq_true rfl) q1242 rfl dX2_begin_17 rfl e (fun v7 _ e => ?_)
      obtain ⟨c8, e⟩ := gd_of e
      obtain ⟨r9, h10, e11, e⟩ := bd2_of e
      refine k_F (pc' := 25) (x := ⟨"java/util/List", "get", "(I)Ljava/lang/Object;"⟩) (y := ⟨"java/util/ArrayList", "get", "(I)Ljava/lang/Object;"⟩) (ci := 16) (n := 1) hc_X2_begin ho_X2_begin rfl c8 (w_J2_get D l hl v1 v7 h4 e11) (wA_l q515) (by decide +kernel) q401 q403 q79 q405 hy_23 ⟨Nat.le_of_ble_eq_true rfl, Nat.le_of_ble_eq_true rfl⟩ rfl rfl (Nat.le_of_ble_eq_true rfl) dX2_begin_20 rfl (kS ?_) kN
      obtain ⟨c12, e⟩ := gd_of e
      refine v_cast (pc' := 28) (ci := 7) hc_X2_begin ho_X2_begin rfl q1120 (Or.inl rfl) dX2_begin_25 rfl c12 ?_
      refine v_aload_n (pc' := 29) hc_X2_begin dX2_begin_28 rfl rfl 1 rfl ?_
      refine v_gnR (pc' := 32) hc_X2_begin ho_X2_begin KX5 2 (Nat.le_of_ble_eq_true rfl) q882 rfl dX2_begin_29 rfl e (fun v13 _ e => ?_)
      refine v_iconst (pc' := 33) (v := 0) hc_X2_begin dX2_begin_32 rfl rfl ?_
      obtain ⟨c14, e⟩ := gd_of e
      obtain ⟨r15, h16, e17, e⟩ := bd2_of e
      refine k_F (pc' := 38) (x := ⟨"java/util/List", "get", "(I)Ljava/lang/Object;"⟩) (y := ⟨"java/util/ArrayList", "get", "(I)Ljava/lang/Object;"⟩) (ci := 16) (n := 1) hc_X2_begin ho_X2_begin rfl c14 (w_J2_get D l hl v13 (0 : Int32) h10 e17) (wA_l q515) (by decide +kernel) q401 q403 q79 q405 hy_23 ⟨Nat.le_of_ble_eq_true rfl, Nat.le_of_ble_eq_true rfl⟩ rfl rfl (Nat.le_of_ble_eq_true rfl) dX2_begin_33 rfl (kS ?_) kN
      obtain ⟨c18, e⟩ := gd_of e
      refine v_cast (pc' := 41) (ci := 10) hc_X2_begin ho_X2_begin rfl q507 (Or.inl rfl) dX2_begin_38 rfl c18 ?_
      refine v_gnI (pc' := 44) hc_X2_begin ho_X2_begin KX12 1 (Nat.le_of_ble_eq_true rfl) q1401 rfl dX2_begin_41 rfl e (fun v19 _ e => ?_)
      refine v_iload_n (pc' := 45) hc_X2_begin dX2_begin_44 rfl rfl 2 rfl ?_
      obtain ⟨c20, e⟩ := gd_of e
      obtain ⟨r21, h22, e23, e⟩ := bd2_of e
      refine k_V (pc' := 48) (ci := 7) (n := 2) hc_X2_begin ho_X2_begin rfl c20 (w_X8_begin D l hl r9 v19 x2 h16 e23) (wA_l q1350) q1351 (wA_l q1352) q107 q1353 hy_77 ⟨Nat.le_of_ble_eq_true rfl, Nat.le_of_ble_eq_true rfl⟩ rfl rfl (Nat.le_of_ble_eq_true rfl) dX2_begin_45 rfl (kS ?_) kN
      obtain ⟨rfl, rfl⟩ := ret_of e
      exact v_iret hc_X2_begin rfl dX2_begin_48 rfl rfl
theorem w_X2_begin (D : va_G) (l : Launch) (hl : l.stackTraces = false) (x0 : Nat) (x1 : Nat) (x2 : Int32) (h : AH) {r : Int32} {hF : AH} (e : f_X2_begin x0 x1 x2 h = some (r, hF)) : MetV D l yX2_begin (Cond.code yX2_begin cX2_begin 3 (Option.some .int)) 5 133 [.ref x0, .ref x1, .int x2] h hF (oI r) :=
  met_ofF (by decide +kernel) hl (Nat.le_of_ble_eq_true rfl) rfl (v_X2_begin D l hl [.ref x0, .ref x1, .int x2] h x0 x1 x2 h e)
/-! BlockPapers$Patterned.between(II)I  -/
abbrev G_X11_between (D : va_G) (l : Launch) (as : List Value) (h0 hF : AH) (o : Out) : CT := (D, l, (yX11_between.cls, yX11_between, cX11_between, 3, (Option.some .int), 3, 90, []), as, h0, hF, o)
theorem hc_X11_between {D : va_G} {l : Launch} {as : List Value} {h0 hF : AH} {o : Out} : gC (G_X11_between D l as h0 hF o) = cX11_between := rfl
theorem ho_X11_between {D : va_G} {l : Launch} {as : List Value} {h0 hF : AH} {o : Out} : gO (G_X11_between D l as h0 hF o) = "BlockPapers$Patterned" := rfl
theorem hp_X11_between {D : va_G} {l : Launch} {as : List Value} {h0 hF : AH} {o : Out} (pc : Nat) : ∀ z ∈ tableOf (gHd (G_X11_between D l as h0 hF o)), covers z pc = false := hpN
def f_X11_between (x0 : Nat) (x1 : Int32) (x2 : Int32) (h : AH) : Option (Int32 × AH) :=
  gd (isC h 7 x0) <|
  bd2 (f_X8_repeat x0 h) fun r2 h3 =>
  gd (isC h3 7 x0) <|
  bd2 (f_X11_within x0 ((x2 - x1) + r2) h3) fun r6 h7 =>
  some (r6, h7)
theorem v_X11_between (D : va_G) (l : Launch) (hl : l.stackTraces = false) (as : List Value) (h0 : AH) {r : Int32} {hF : AH} (x0 : Nat) (x1 : Int32) (x2 : Int32) (h : AH) (e : f_X11_between x0 x1 x2 h = some (r, hF)) : V (G_X11_between D l as h0 hF (oI r)) h 0 [(0, .ref x0), (1, .int x1), (2, .int x2)] [] := by
  unfold f_X11_between at e
  refine v_aload_n (pc' := 1) hc_X11_between dX11_between_0 rfl rfl 0 rfl ?_
  refine v_iload_n (pc' := 2) hc_X11_between dX11_between_1 rfl rfl 2 rfl ?_
  refine v_iload_n (pc' := 3) hc_X11_between dX11_between_2 rfl rfl 1 rfl ?_
  refine v_isub (pc' := 4) hc_X11_between dX11_between_3 rfl ?_
  refine v_aload_n (pc' := 5) hc_X11_between dX11_between_4 rfl rfl 0 rfl ?_
  obtain ⟨c1, e⟩ := gd_of e
  obtain ⟨r2, h3, e4, e⟩ := bd2_of e
  refine k_F (pc' := 10) (x := ⟨"BlockPapers$Patterned", "repeat", "()I"⟩) (y := ⟨"BlockPapers$Block", "repeat", "()I"⟩) (ci := 7) (n := 0) hc_X11_between ho_X11_between rfl c1 (w_X8_repeat D l hl x0 h e4) (wA_l q1360) (by decide +kernel) q1364 q1366 q107 q1368 hy_75 ⟨Nat.le_of_ble_eq_true rfl, Nat.le_of_ble_eq_true rfl⟩ rfl rfl (Nat.le_of_ble_eq_true rfl) dX11_between_5 rfl (kS ?_) kN
  refine v_iadd (pc' := 11) hc_X11_between dX11_between_10 rfl ?_
  obtain ⟨c5, e⟩ := gd_of e
  obtain ⟨r6, h7, e8, e⟩ := bd2_of e
  refine k_FD (pc' := 16) (x := ⟨"BlockPapers$Patterned", "within", "(I)I"⟩) (ci := 7) (n := 1) hc_X11_between ho_X11_between rfl c5 (w_X11_within D l hl x0 ((x2 - x1) + r2) h3 e8) (wA_l q1382) (by decide +kernel) (by decide +kernel) q1356 q110 q1358 ⟨by decide +kernel, by decide +kernel, by decide +kernel⟩ ⟨Nat.le_of_ble_eq_true rfl, Nat.le_of_ble_eq_true rfl⟩ rfl rfl (Nat.le_of_ble_eq_true rfl) dX11_between_11 rfl (kD ?_)
  obtain ⟨rfl, rfl⟩ := ret_of e
  exact v_iret hc_X11_between rfl dX11_between_16 rfl rfl
theorem w_X11_between (D : va_G) (l : Launch) (hl : l.stackTraces = false) (x0 : Nat) (x1 : Int32) (x2 : Int32) (h : AH) {r : Int32} {hF : AH} (e : f_X11_between x0 x1 x2 h = some (r, hF)) : MetV D l yX11_between (Cond.code yX11_between cX11_between 3 (Option.some .int)) 3 90 [.ref x0, .int x1, .int x2] h hF (oI r) :=
  met_ofF (by decide +kernel) hl (Nat.le_of_ble_eq_true rfl) rfl (v_X11_between D l hl [.ref x0, .int x1, .int x2] h x0 x1 x2 h e)
/-! BlockPapers$Workshop.waste(LBlockPapers$Roll;II)I  -/
abbrev G_X2_waste (D : va_G) (l : Launch) (as : List Value) (h0 hF : AH) (o : Out) : CT := (D, l, (yX2_waste.cls, yX2_waste, cX2_waste, 5, (Option.some .int), 4, 112, []), as, h0, hF, o)
theorem hc_X2_waste {D : va_G} {l : Launch} {as : List Value} {h0 hF : AH} {o : Out} : gC (G_X2_waste D l as h0 hF o) = cX2_waste := rfl
theorem ho_X2_waste {D : va_G} {l : Launch} {as : List Value} {h0 hF : AH} {o : Out} : gO (G_X2_waste D l as h0 hF o) = "BlockPapers$Workshop" := rfl
theorem hp_X2_waste {D : va_G} {l : Launch} {as : List Value} {h0 hF : AH} {o : Out} (pc : Nat) : ∀ z ∈ tableOf (gHd (G_X2_waste D l as h0 hF o)), covers z pc = false := hpN
def f_X2_waste (x0 : Nat) (x1 : Nat) (x2 : Int32) (x3 : Int32) (h : AH) : Option (Int32 × AH) :=
  bd (gtR h 1 x0 0) fun v1 =>
  bd (gtI h 9 x1 0) fun v2 =>
  gd (isC h 16 v1) <|
  bd2 (f_J2_get v1 v2 h) fun r4 h5 =>
  gd (isC h5 7 r4) <|
  if x3 = (-1 : Int32) then (
    some ((0 : Int32), h5)
  ) else (
    gd (isC h5 7 r4) <|
    bd2 (f_X11_within r4 x2 h5) fun r9 h10 =>
    gd (isC h10 7 r4) <|
    bd2 (f_X11_between r4 r9 x3 h10) fun r13 h14 =>
    some (r13, h14)
  )
theorem v_X2_waste (D : va_G) (l : Launch) (hl : l.stackTraces = false) (as : List Value) (h0 : AH) {r : Int32} {hF : AH} (x0 : Nat) (x1 : Nat) (x2 : Int32) (x3 : Int32) (h : AH) (e : f_X2_waste x0 x1 x2 x3 h = some (r, hF)) : V (G_X2_waste D l as h0 hF (oI r)) h 0 [(0, .ref x0), (1, .ref x1), (2, .int x2), (3, .int x3)] [] := by
  unfold f_X2_waste at e
  refine v_aload_n (pc' := 1) hc_X2_waste dX2_waste_0 rfl rfl 0 rfl ?_
  refine v_gfR (pc' := 4) hc_X2_waste ho_X2_waste KX2 0 (Nat.le_of_ble_eq_true rfl) q164 (Or.inl rfl) dX2_waste_1 rfl e (fun v1 _ e => ?_)
  refine v_aload_n (pc' := 5) hc_X2_waste dX2_waste_4 rfl rfl 1 rfl ?_
  refine v_gnI (pc' := 8) hc_X2_waste ho_X2_waste KX10 0 (Nat.le_of_ble_eq_true rfl) q1242 rfl dX2_waste_5 rfl e (fun v2 _ e => ?_)
  obtain ⟨c3, e⟩ := gd_of e
  obtain ⟨r4, h5, e6, e⟩ := bd2_of e
  refine k_F (pc' := 13) (x := ⟨"java/util/List", "get", "(I)Ljava/lang/Object;"⟩) (y := ⟨"java/util/ArrayList", "get", "(I)Ljava/lang/Object;"⟩) (ci := 16) (n := 1) hc_X2_waste ho_X2_waste rfl c3 (w_J2_get D l hl v1 v2 h e6) (wA_l q515) (by decide +kernel) q401 q403 q79 q405 hy_23 ⟨Nat.le_of_ble_eq_true rfl, Nat.le_of_ble_eq_true rfl⟩ rfl rfl (Nat.le_of_ble_eq_true rfl) dX2_waste_8 rfl (kS ?_) kN
  obtain ⟨c7, e⟩ := gd_of e
  refine v_cast (pc' := 16) (ci := 7) hc_X2_waste ho_X2_waste rfl q1120 (Or.inl rfl) dX2_waste_13 rfl c7 ?_
  refine v_astore (pc' := 18) (lv' := [(4, .ref r4), (0, .ref x0), (1, .ref x1), (2, .int x2), (3, .int x3)]) hc_X2_waste dX2_waste_16 rfl (Nat.le_of_ble_eq_true rfl) rfl ?_
  refine v_iload_n (pc' := 19) hc_X2_waste dX2_waste_18 rfl rfl 4 rfl ?_
  refine v_iconst (pc' := 20) (v := (-1)) hc_X2_waste dX2_waste_19 rfl rfl ?_
  refine v_icmp_ne (pt := 27) (pf := 23) hc_X2_waste dX2_waste_20 rfl rfl e (fun _ e => ?_) (fun _ e => ?_)
  · refine v_iconst (pc' := 24) (v := 0) hc_X2_waste dX2_waste_23 rfl rfl ?_
    refine v_goto (pt := 39) hc_X2_waste dX2_waste_24 rfl ?_
    obtain ⟨rfl, rfl⟩ := ret_of e
    exact v_iret hc_X2_waste rfl dX2_waste_39 rfl rfl
  · refine v_aload (pc' := 29) hc_X2_waste dX2_waste_27 rfl 0 rfl ?_
    refine v_aload (pc' := 31) hc_X2_waste dX2_waste_29 rfl 0 rfl ?_
    refine v_iload_n (pc' := 32) hc_X2_waste dX2_waste_31 rfl rfl 3 rfl ?_
    obtain ⟨c8, e⟩ := gd_of e
    obtain ⟨r9, h10, e11, e⟩ := bd2_of e
    refine k_D (pc' := 35) (x := ⟨"BlockPapers$Block", "within", "(I)I"⟩) (owner := "BlockPapers$Patterned") (ci := 7) (n := 1) hc_X2_waste ho_X2_waste rfl c8 (w_X11_within D l hl r4 x2 h5 e11) qdf2 qdf1 q1354 (by decide +kernel) q1356 q110 q1358 ⟨by decide +kernel, by decide +kernel, by decide +kernel⟩ ⟨Nat.le_of_ble_eq_true rfl, Nat.le_of_ble_eq_true rfl⟩ rfl rfl (Nat.le_of_ble_eq_true rfl) dX2_waste_32 rfl (kD ?_)
    refine v_iload_n (pc' := 36) hc_X2_waste dX2_waste_35 rfl rfl 4 rfl ?_
    obtain ⟨c12, e⟩ := gd_of e
    obtain ⟨r13, h14, e15, e⟩ := bd2_of e
    refine k_D (pc' := 39) (x := ⟨"BlockPapers$Block", "between", "(II)I"⟩) (owner := "BlockPapers$Patterned") (ci := 7) (n := 2) hc_X2_waste ho_X2_waste rfl c12 (w_X11_between D l hl r4 r9 x3 h10 e15) qdf3 qdf4 q1376 (by decide +kernel) q1378 q110 q1380 ⟨by decide +kernel, by decide +kernel, by decide +kernel⟩ ⟨Nat.le_of_ble_eq_true rfl, Nat.le_of_ble_eq_true rfl⟩ rfl rfl (Nat.le_of_ble_eq_true rfl) dX2_waste_36 rfl (kD ?_)
    obtain ⟨rfl, rfl⟩ := ret_of e
    exact v_iret hc_X2_waste rfl dX2_waste_39 rfl rfl
theorem w_X2_waste (D : va_G) (l : Launch) (hl : l.stackTraces = false) (x0 : Nat) (x1 : Nat) (x2 : Int32) (x3 : Int32) (h : AH) {r : Int32} {hF : AH} (e : f_X2_waste x0 x1 x2 x3 h = some (r, hF)) : MetV D l yX2_waste (Cond.code yX2_waste cX2_waste 5 (Option.some .int)) 4 112 [.ref x0, .ref x1, .int x2, .int x3] h hF (oI r) :=
  met_ofF (by decide +kernel) hl (Nat.le_of_ble_eq_true rfl) rfl (v_X2_waste D l hl [.ref x0, .ref x1, .int x2, .int x3] h x0 x1 x2 x3 h e)
/-! BlockPapers$Roll.left()I  -/
abbrev G_X10_left (D : va_G) (l : Launch) (as : List Value) (h0 hF : AH) (o : Out) : CT := (D, l, (yX10_left.cls, yX10_left, cX10_left, 1, (Option.some .int), 1, 48, []), as, h0, hF, o)
theorem hc_X10_left {D : va_G} {l : Launch} {as : List Value} {h0 hF : AH} {o : Out} : gC (G_X10_left D l as h0 hF o) = cX10_left := rfl
theorem ho_X10_left {D : va_G} {l : Launch} {as : List Value} {h0 hF : AH} {o : Out} : gO (G_X10_left D l as h0 hF o) = "BlockPapers$Roll" := rfl
theorem hp_X10_left {D : va_G} {l : Launch} {as : List Value} {h0 hF : AH} {o : Out} (pc : Nat) : ∀ z ∈ tableOf (gHd (G_X10_left D l as h0 hF o)), covers z pc = false := hpN
def f_X10_left (x0 : Nat) (h : AH) : Option (Int32 × AH) :=
  bd (gtI h 9 x0 6) fun v1 =>
  if v1 = 0 then (
    bd (gtI h 9 x0 4) fun v2 =>
    bd (gtI h 9 x0 5) fun v3 =>
    some ((v2 - v3), h)
  ) else (
    some ((0 : Int32), h)
  )
theorem v_X10_left (D : va_G) (l : Launch) (hl : l.stackTraces = false) (as : List Value) (h0 : AH) {r : Int32} {hF : AH} (x0 : Nat) (h : AH) (e : f_X10_left x0 h = some (r, hF)) : V (G_X10_left D l as h0 hF (oI r)) h 0 [(0, .ref x0)] [] := by
  unfold f_X10_left at e
  refine v_aload_n (pc' := 1) hc_X10_left dX10_left_0 rfl rfl 0 rfl ?_
  refine v_gfI (pc' := 4) hc_X10_left ho_X10_left KX10 6 (Nat.le_of_ble_eq_true rfl) q1258 (Or.inl rfl) dX10_left_1 rfl e (fun v1 _ e => ?_)
  refine v_if_eq (pt := 11) (pf := 7) hc_X10_left dX10_left_4 rfl rfl e (fun _ e => ?_) (fun _ e => ?_)
  · refine v_aload_n (pc' := 12) hc_X10_left dX10_left_11 rfl rfl 0 rfl ?_
    refine v_gfI (pc' := 15) hc_X10_left ho_X10_left KX10 4 (Nat.le_of_ble_eq_true rfl) q1251 (Or.inl rfl) dX10_left_12 rfl e (fun v2 _ e => ?_)
    refine v_aload_n (pc' := 16) hc_X10_left dX10_left_15 rfl rfl 0 rfl ?_
    refine v_gfI (pc' := 19) hc_X10_left ho_X10_left KX10 5 (Nat.le_of_ble_eq_true rfl) q1255 (Or.inl rfl) dX10_left_16 rfl e (fun v3 _ e => ?_)
    refine v_isub (pc' := 20) hc_X10_left dX10_left_19 rfl ?_
    obtain ⟨rfl, rfl⟩ := ret_of e
    exact v_iret hc_X10_left rfl dX10_left_20 rfl rfl
  · refine v_iconst (pc' := 8) (v := 0) hc_X10_left dX10_left_7 rfl rfl ?_
    refine v_goto (pt := 20) hc_X10_left dX10_left_8 rfl ?_
    obtain ⟨rfl, rfl⟩ := ret_of e
    exact v_iret hc_X10_left rfl dX10_left_20 rfl rfl
theorem w_X10_left (D : va_G) (l : Launch) (hl : l.stackTraces = false) (x0 : Nat) (h : AH) {r : Int32} {hF : AH} (e : f_X10_left x0 h = some (r, hF)) : MetV D l yX10_left (Cond.code yX10_left cX10_left 1 (Option.some .int)) 1 48 [.ref x0] h hF (oI r) :=
  met_ofF (by decide +kernel) hl (Nat.le_of_ble_eq_true rfl) rfl (v_X10_left D l hl [.ref x0] h x0 h e)
/-! BlockPapers$Workshop.missing(LBlockPapers$Room;LBlockPapers$Roll;)I  -/
abbrev G_X2_missing (D : va_G) (l : Launch) (as : List Value) (h0 hF : AH) (o : Out) : CT := (D, l, (yX2_missing.cls, yX2_missing, cX2_missing, 3, (Option.some .int), 6, 155, []), as, h0, hF, o)
theorem hc_X2_missing {D : va_G} {l : Launch} {as : List Value} {h0 hF : AH} {o : Out} : gC (G_X2_missing D l as h0 hF o) = cX2_missing := rfl
theorem ho_X2_missing {D : va_G} {l : Launch} {as : List Value} {h0 hF : AH} {o : Out} : gO (G_X2_missing D l as h0 hF o) = "BlockPapers$Workshop" := rfl
theorem hp_X2_missing {D : va_G} {l : Launch} {as : List Value} {h0 hF : AH} {o : Out} (pc : Nat) : ∀ z ∈ tableOf (gHd (G_X2_missing D l as h0 hF o)), covers z pc = false := hpN
def f_X2_missing (x0 : Nat) (x1 : Nat) (x2 : Nat) (h : AH) : Option (Int32 × AH) :=
  bd (gtI h 9 x2 5) fun v1 =>
  bd (gtR h 4 x1 2) fun v2 =>
  gd (isC h 16 v2) <|
  bd2 (f_J2_size v2 h) fun r4 h5 =>
  gd (isC h5 1 x0) <|
  bd2 (f_X2_begin x0 x1 r4 h5) fun r8 h9 =>
  gd (isC h9 1 x0) <|
  bd2 (f_X2_waste x0 x2 v1 r8 h9) fun r12 h13 =>
  bd (gtI h13 4 x1 0) fun v15 =>
  gd (isC h13 9 x2) <|
  bd2 (f_X10_left x2 h13) fun r17 h18 =>
  some (((r12 + v15) - r17), h18)
theorem v_X2_missing (D : va_G) (l : Launch) (hl : l.stackTraces = false) (as : List Value) (h0 : AH) {r : Int32} {hF : AH} (x0 : Nat) (x1 : Nat) (x2 : Nat) (h : AH) (e : f_X2_missing x0 x1 x2 h = some (r, hF)) : V (G_X2_missing D l as h0 hF (oI r)) h 0 [(0, .ref x0), (1, .ref x1), (2, .ref x2)] [] := by
  unfold f_X2_missing at e
  refine v_aload_n (pc' := 1) hc_X2_missing dX2_missing_0 rfl rfl 0 rfl ?_
  refine v_aload_n (pc' := 2) hc_X2_missing dX2_missing_1 rfl rfl 2 rfl ?_
  refine v_aload_n (pc' := 3) hc_X2_missing dX2_missing_2 rfl rfl 2 rfl ?_
  refine v_gnI (pc' := 6) hc_X2_missing ho_X2_missing KX10 5 (Nat.le_of_ble_eq_true rfl) q1256 rfl dX2_missing_3 rfl e (fun v1 _ e => ?_)
  refine v_aload_n (pc' := 7) hc_X2_missing dX2_missing_6 rfl rfl 0 rfl ?_
  refine v_aload_n (pc' := 8) hc_X2_missing dX2_missing_7 rfl rfl 1 rfl ?_
  refine v_aload_n (pc' := 9) hc_X2_missing dX2_missing_8 rfl rfl 1 rfl ?_
  refine v_gnR (pc' := 12) hc_X2_missing ho_X2_missing KX5 2 (Nat.le_of_ble_eq_true rfl) q882 rfl dX2_missing_9 rfl e (fun v2 _ e => ?_)
  obtain ⟨c3, e⟩ := gd_of e
  obtain ⟨r4, h5, e6, e⟩ := bd2_of e
  refine k_F (pc' := 17) (x := ⟨"java/util/List", "size", "()I"⟩) (y := ⟨"java/util/ArrayList", "size", "()I"⟩) (ci := 16) (n := 0) hc_X2_missing ho_X2_missing rfl c3 (w_J2_size D l hl v2 h e6) (wA_l q513) (by decide +kernel) q348 q350 q79 q352 hy_19 ⟨Nat.le_of_ble_eq_true rfl, Nat.le_of_ble_eq_true rfl⟩ rfl rfl (Nat.le_of_ble_eq_true rfl) dX2_missing_12 rfl (kS ?_) kN
  obtain ⟨c7, e⟩ := gd_of e
  obtain ⟨r8, h9, e10, e⟩ := bd2_of e
  refine k_V (pc' := 20) (ci := 1) (n := 2) hc_X2_missing ho_X2_missing rfl c7 (w_X2_begin D l hl x0 x1 r4 h5 e10) (wA_l q1346) q1347 (wA_l q1348) q76 q1349 hy_78 ⟨Nat.le_of_ble_eq_true rfl, Nat.le_of_ble_eq_true rfl⟩ rfl rfl (Nat.le_of_ble_eq_true rfl) dX2_missing_17 rfl (kS ?_) kN
  obtain ⟨c11, e⟩ := gd_of e
  obtain ⟨r12, h13, e14, e⟩ := bd2_of e
  refine k_V (pc' := 23) (ci := 1) (n := 3) hc_X2_missing ho_X2_missing rfl c11 (w_X2_waste D l hl x0 x2 v1 r8 h9 e14) (wA_l q1372) q1374 (wA_l qs11) q76 q1375 hy_79 ⟨Nat.le_of_ble_eq_true rfl, Nat.le_of_ble_eq_true rfl⟩ rfl rfl (Nat.le_of_ble_eq_true rfl) dX2_missing_20 rfl (kS ?_) kN
  refine v_aload_n (pc' := 24) hc_X2_missing dX2_missing_23 rfl rfl 1 rfl ?_
  refine v_gnI (pc' := 27) hc_X2_missing ho_X2_missing KX5 0 (Nat.le_of_ble_eq_true rfl) q874 rfl dX2_missing_24 rfl e (fun v15 _ e => ?_)
  refine v_iadd (pc' := 28) hc_X2_missing dX2_missing_27 rfl ?_
  refine v_aload_n (pc' := 29) hc_X2_missing dX2_missing_28 rfl rfl 2 rfl ?_
  obtain ⟨c16, e⟩ := gd_of e
  obtain ⟨r17, h18, e19, e⟩ := bd2_of e
  refine k_V (pc' := 32) (ci := 9) (n := 0) hc_X2_missing ho_X2_missing rfl c16 (w_X10_left D l hl x2 h13 e19) (wA_l q517) q518 (wA_l q519) q109 q520 hy_80 ⟨Nat.le_of_ble_eq_true rfl, Nat.le_of_ble_eq_true rfl⟩ rfl rfl (Nat.le_of_ble_eq_true rfl) dX2_missing_29 rfl (kS ?_) kN
  refine v_isub (pc' := 33) hc_X2_missing dX2_missing_32 rfl ?_
  obtain ⟨rfl, rfl⟩ := ret_of e
  exact v_iret hc_X2_missing rfl dX2_missing_33 rfl rfl
theorem w_X2_missing (D : va_G) (l : Launch) (hl : l.stackTraces = false) (x0 : Nat) (x1 : Nat) (x2 : Nat) (h : AH) {r : Int32} {hF : AH} (e : f_X2_missing x0 x1 x2 h = some (r, hF)) : MetV D l yX2_missing (Cond.code yX2_missing cX2_missing 3 (Option.some .int)) 6 155 [.ref x0, .ref x1, .ref x2] h hF (oI r) :=
  met_ofF (by decide +kernel) hl (Nat.le_of_ble_eq_true rfl) rfl (v_X2_missing D l hl [.ref x0, .ref x1, .ref x2] h x0 x1 x2 h e)
/-! BlockPapers$Workshop.reason(LBlockPapers$Room;LBlockPapers$Roll;)I  -/
abbrev G_X2_reason (D : va_G) (l : Launch) (as : List Value) (h0 hF : AH) (o : Out) : CT := (D, l, (yX2_reason.cls, yX2_reason, cX2_reason, 4, (Option.some .int), 7, 177, []), as, h0, hF, o)
theorem hc_X2_reason {D : va_G} {l : Launch} {as : List Value} {h0 hF : AH} {o : Out} : gC (G_X2_reason D l as h0 hF o) = cX2_reason := rfl
theorem ho_X2_reason {D : va_G} {l : Launch} {as : List Value} {h0 hF : AH} {o : Out} : gO (G_X2_reason D l as h0 hF o) = "BlockPapers$Workshop" := rfl
theorem hp_X2_reason {D : va_G} {l : Launch} {as : List Value} {h0 hF : AH} {o : Out} (pc : Nat) : ∀ z ∈ tableOf (gHd (G_X2_reason D l as h0 hF o)), covers z pc = false := hpN
def f_X2_reason_j60 (x0 : Nat) (x1 : Nat) (x2 : Nat) (h : AH) : Option (Int32 × AH) :=
  gd (isC h 1 x0) <|
  bd2 (f_X2_unlike x0 x1 x2 h) fun r2 h3 =>
  if r2 ≤ (1 : Int32) then (
    gd (isC h3 1 x0) <|
    bd2 (f_X2_missing x0 x1 x2 h3) fun r6 h7 =>
    if r6 ≤ 0 then (
      some ((0 : Int32), h7)
    ) else (
      some ((9 : Int32), h7)
    )
  ) else (
    some ((8 : Int32), h3)
  )
theorem w_X2_reason_j60 (D : va_G) (l : Launch) (hl : l.stackTraces = false) (as : List Value) (h0 : AH) {r : Int32} {hF : AH} (x0 : Nat) (x1 : Nat) (x2 : Nat) (h : AH) (e : f_X2_reason_j60 x0 x1 x2 h = some (r, hF)) : V (G_X2_reason D l as h0 hF (oI r)) h 60 [(0, .ref x0), (1, .ref x1), (2, .ref x2)] [] := by
  unfold f_X2_reason_j60 at e
  refine v_aload_n (pc' := 61) hc_X2_reason dX2_reason_60 rfl rfl 0 rfl ?_
  refine v_aload_n (pc' := 62) hc_X2_reason dX2_reason_61 rfl rfl 1 rfl ?_
  refine v_aload_n (pc' := 63) hc_X2_reason dX2_reason_62 rfl rfl 2 rfl ?_
  obtain ⟨c1, e⟩ := gd_of e
  obtain ⟨r2, h3, e4, e⟩ := bd2_of e
  refine k_V (pc' := 66) (ci := 1) (n := 2) hc_X2_reason ho_X2_reason rfl c1 (w_X2_unlike D l hl x0 x1 x2 h e4) (wA_l q1331) q1333 (wA_l qs9) q76 q1334 hy_74 ⟨Nat.le_of_ble_eq_true rfl, Nat.le_of_ble_eq_true rfl⟩ rfl rfl (Nat.le_of_ble_eq_true rfl) dX2_reason_63 rfl (kS ?_) kN
  refine v_iconst (pc' := 67) (v := 1) hc_X2_reason dX2_reason_66 rfl rfl ?_
  refine v_icmp_le (pt := 75) (pf := 70) hc_X2_reason dX2_reason_67 rfl rfl e (fun _ e => ?_) (fun _ e => ?_)
  · refine v_aload_n (pc' := 76) hc_X2_reason dX2_reason_75 rfl rfl 0 rfl ?_
    refine v_aload_n (pc' := 77) hc_X2_reason dX2_reason_76 rfl rfl 1 rfl ?_
    refine v_aload_n (pc' := 78) hc_X2_reason dX2_reason_77 rfl rfl 2 rfl ?_
    obtain ⟨c5, e⟩ := gd_of e
    obtain ⟨r6, h7, e8, e⟩ := bd2_of e
    refine k_V (pc' := 81) (ci := 1) (n := 2) hc_X2_reason ho_X2_reason rfl c5 (w_X2_missing D l hl x0 x1 x2 h3 e8) (wA_l q1342) q1344 (wA_l qs10) q76 q1345 hy_81 ⟨Nat.le_of_ble_eq_true rfl, Nat.le_of_ble_eq_true rfl⟩ rfl rfl (Nat.le_of_ble_eq_true rfl) dX2_reason_78 rfl (kS ?_) kN
    refine v_if_le (pt := 89) (pf := 84) hc_X2_reason dX2_reason_81 rfl rfl e (fun _ e => ?_) (fun _ e => ?_)
    · refine v_iconst (pc' := 90) (v := 0) hc_X2_reason dX2_reason_89 rfl rfl ?_
      obtain ⟨rfl, rfl⟩ := ret_of e
      exact v_iret hc_X2_reason rfl dX2_reason_90 rfl rfl
    · refine v_bipush (pc' := 86) (v := 9) hc_X2_reason dX2_reason_84 rfl rfl ?_
      refine v_goto (pt := 90) hc_X2_reason dX2_reason_86 rfl ?_
      obtain ⟨rfl, rfl⟩ := ret_of e
      exact v_iret hc_X2_reason rfl dX2_reason_90 rfl rfl
  · refine v_bipush (pc' := 72) (v := 8) hc_X2_reason dX2_reason_70 rfl rfl ?_
    refine v_goto (pt := 90) hc_X2_reason dX2_reason_72 rfl ?_
    obtain ⟨rfl, rfl⟩ := ret_of e
    exact v_iret hc_X2_reason rfl dX2_reason_90 rfl rfl
def f_X2_reason_j42 (x0 : Nat) (x1 : Nat) (x2 : Nat) (x3 : Option Nat) (h : AH) : Option (Int32 × AH) :=
  optR x3 (
    f_X2_reason_j60 x0 x1 x2 h
  ) fun x3_ =>
  bd (gtI h 9 x3_ 2) fun v1 =>
  bd (gtI h 9 x2 2) fun v2 =>
  if v1 = v2 then (
    f_X2_reason_j60 x0 x1 x2 h
  ) else (
    some ((7 : Int32), h)
  )
theorem w_X2_reason_j42 (D : va_G) (l : Launch) (hl : l.stackTraces = false) (as : List Value) (h0 : AH) {r : Int32} {hF : AH} (x0 : Nat) (x1 : Nat) (x2 : Nat) (x3 : Option Nat) (h : AH) (e : f_X2_reason_j42 x0 x1 x2 x3 h = some (r, hF)) : V (G_X2_reason D l as h0 hF (oI r)) h 42 [(0, .ref x0), (1, .ref x1), (2, .ref x2), (3, va_rf x3)] [] := by
  unfold f_X2_reason_j42 at e
  replace e := optR_of e
  rcases e with ⟨z, e⟩ | ⟨x3_, z, e⟩
  · subst z
    refine v_aload_nN (pc' := 43) hc_X2_reason dX2_reason_42 rfl rfl 3 rfl ?_
    refine v_ifnullN (x := 0) (pt := 60) hc_X2_reason dX2_reason_43 rfl ?_
    refine v_pick [0, 1, 2] rfl ?_
    exact w_X2_reason_j60 D l hl as h0 x0 x1 x2 h e
  · subst z
    refine v_aload_n (pc' := 43) hc_X2_reason dX2_reason_42 rfl rfl 3 rfl ?_
    refine v_ifnull (pc' := 46) hc_X2_reason dX2_reason_43 rfl ?_
    refine v_aload_n (pc' := 47) hc_X2_reason dX2_reason_46 rfl rfl 3 rfl ?_
    refine v_gnI (pc' := 50) hc_X2_reason ho_X2_reason KX10 2 (Nat.le_of_ble_eq_true rfl) q1246 rfl dX2_reason_47 rfl e (fun v1 _ e => ?_)
    refine v_aload_n (pc' := 51) hc_X2_reason dX2_reason_50 rfl rfl 2 rfl ?_
    refine v_gnI (pc' := 54) hc_X2_reason ho_X2_reason KX10 2 (Nat.le_of_ble_eq_true rfl) q1246 rfl dX2_reason_51 rfl e (fun v2 _ e => ?_)
    refine v_icmp_eq (pt := 60) (pf := 57) hc_X2_reason dX2_reason_54 rfl rfl e (fun _ e => ?_) (fun _ e => ?_)
    · refine v_pick [0, 1, 2] rfl ?_
      exact w_X2_reason_j60 D l hl as h0 x0 x1 x2 h e
    · refine v_bipush (pc' := 59) (v := 7) hc_X2_reason dX2_reason_57 rfl rfl ?_
      obtain ⟨rfl, rfl⟩ := ret_of e
      exact v_iret hc_X2_reason rfl dX2_reason_59 rfl rfl
def f_X2_reason (x0 : Nat) (x1 : Nat) (x2 : Nat) (h : AH) : Option (Int32 × AH) :=
  gd (isC h 1 x0) <|
  bd2 (f_X2_first x0 x1 h) fun r2 h3 =>
  optR r2 (
    gd (isC h3 4 x1) <|
    bd2 (f_X5_isFull x1 h3) fun r7 h8 =>
    if r7 = 0 then (
      bd (gtI h8 9 x2 6) fun v10 =>
      if v10 = 0 then (
        f_X2_reason_j42 x0 x1 x2 none h8
      ) else (
        some ((5 : Int32), h8)
      )
    ) else (
      some ((4 : Int32), h8)
    )
  ) fun v5 =>
  gd (isC h3 4 x1) <|
  bd2 (f_X5_isFull x1 h3) fun r12 h13 =>
  if r12 = 0 then (
    bd (gtI h13 9 x2 6) fun v15 =>
    if v15 = 0 then (
      bd (gtI h13 9 v5 0) fun v16 =>
      bd (gtI h13 9 x2 0) fun v17 =>
      if v16 = v17 then (
        f_X2_reason_j42 x0 x1 x2 (some v5) h13
      ) else (
        some ((6 : Int32), h13)
      )
    ) else (
      some ((5 : Int32), h13)
    )
  ) else (
    some ((4 : Int32), h13)
  )
theorem v_X2_reason (D : va_G) (l : Launch) (hl : l.stackTraces = false) (as : List Value) (h0 : AH) {r : Int32} {hF : AH} (x0 : Nat) (x1 : Nat) (x2 : Nat) (h : AH) (e : f_X2_reason x0 x1 x2 h = some (r, hF)) : V (G_X2_reason D l as h0 hF (oI r)) h 0 [(0, .ref x0), (1, .ref x1), (2, .ref x2)] [] := by
  unfold f_X2_reason at e
  refine v_aload_n (pc' := 1) hc_X2_reason dX2_reason_0 rfl rfl 0 rfl ?_
  refine v_aload_n (pc' := 2) hc_X2_reason dX2_reason_1 rfl rfl 1 rfl ?_
  obtain ⟨c1, e⟩ := gd_of e
  obtain ⟨r2, h3, e4, e⟩ := bd2_of e
  replace e := optR_of e
  rcases e with ⟨z, e⟩ | ⟨v5, z, e⟩
  · subst z
    refine k_V (pc' := 5) (ci := 1) (n := 1) hc_X2_reason ho_X2_reason rfl c1 (w_X2_first D l hl x0 x1 h e4) (wA_l q1318) q1319 (wA_l q1320) q76 q1321 hy_71 ⟨Nat.le_of_ble_eq_true rfl, Nat.le_of_ble_eq_true rfl⟩ rfl rfl (Nat.le_of_ble_eq_true rfl) dX2_reason_2 rfl (kS ?_) kN
    refine v_astore_nN (pc' := 6) (lv' := [(3, .null), (0, .ref x0), (1, .ref x1), (2, .ref x2)]) hc_X2_reason dX2_reason_5 rfl rfl (Nat.le_of_ble_eq_true rfl) rfl ?_
    refine v_aload_n (pc' := 7) hc_X2_reason dX2_reason_6 rfl rfl 2 rfl ?_
    obtain ⟨c6, e⟩ := gd_of e
    obtain ⟨r7, h8, e9, e⟩ := bd2_of e
    refine k_V (pc' := 10) (ci := 4) (n := 0) hc_X2_reason ho_X2_reason rfl c6 (w_X5_isFull D l hl x1 h3 e9) (wA_l q545) q546 (wA_l q547) q99 q548 hy_72 ⟨Nat.le_of_ble_eq_true rfl, Nat.le_of_ble_eq_true rfl⟩ rfl rfl (Nat.le_of_ble_eq_true rfl) dX2_reason_7 rfl (kS ?_) kN
    refine v_if_eq (pt := 15) (pf := 13) hc_X2_reason dX2_reason_10 rfl rfl e (fun _ e => ?_) (fun _ e => ?_)
    · refine v_aload_n (pc' := 16) hc_X2_reason dX2_reason_15 rfl rfl 3 rfl ?_
      refine v_gnI (pc' := 19) hc_X2_reason ho_X2_reason KX10 6 (Nat.le_of_ble_eq_true rfl) q1259 rfl dX2_reason_16 rfl e (fun v10 _ e => ?_)
      refine v_if_eq (pt := 24) (pf := 22) hc_X2_reason dX2_reason_19 rfl rfl e (fun _ e => ?_) (fun _ e => ?_)
      · refine v_aload_nN (pc' := 25) hc_X2_reason dX2_reason_24 rfl rfl 0 rfl ?_
        refine v_ifnullN (x := 0) (pt := 42) hc_X2_reason dX2_reason_25 rfl ?_
        refine v_pick [1, 2, 3, 0] rfl ?_
        exact w_X2_reason_j42 D l hl as h0 x0 x1 x2 none h8 e
      · refine v_iconst (pc' := 23) (v := 5) hc_X2_reason dX2_reason_22 rfl rfl ?_
        obtain ⟨rfl, rfl⟩ := ret_of e
        exact v_iret hc_X2_reason rfl dX2_reason_23 rfl rfl
    · refine v_iconst (pc' := 14) (v := 4) hc_X2_reason dX2_reason_13 rfl rfl ?_
      obtain ⟨rfl, rfl⟩ := ret_of e
      exact v_iret hc_X2_reason rfl dX2_reason_14 rfl rfl
  · subst z
    refine k_V (pc' := 5) (ci := 1) (n := 1) hc_X2_reason ho_X2_reason rfl c1 (w_X2_first D l hl x0 x1 h e4) (wA_l q1318) q1319 (wA_l q1320) q76 q1321 hy_71 ⟨Nat.le_of_ble_eq_true rfl, Nat.le_of_ble_eq_true rfl⟩ rfl rfl (Nat.le_of_ble_eq_true rfl) dX2_reason_2 rfl (kS ?_) kN
    refine v_astore_n (pc' := 6) (lv' := [(3, .ref v5), (0, .ref x0), (1, .ref x1), (2, .ref x2)]) hc_X2_reason dX2_reason_5 rfl rfl (Nat.le_of_ble_eq_true rfl) rfl ?_
    refine v_aload_n (pc' := 7) hc_X2_reason dX2_reason_6 rfl rfl 2 rfl ?_
    obtain ⟨c11, e⟩ := gd_of e
    obtain ⟨r12, h13, e14, e⟩ := bd2_of e
    refine k_V (pc' := 10) (ci := 4) (n := 0) hc_X2_reason ho_X2_reason rfl c11 (w_X5_isFull D l hl x1 h3 e14) (wA_l q545) q546 (wA_l q547) q99 q548 hy_72 ⟨Nat.le_of_ble_eq_true rfl, Nat.le_of_ble_eq_true rfl⟩ rfl rfl (Nat.le_of_ble_eq_true rfl) dX2_reason_7 rfl (kS ?_) kN
    refine v_if_eq (pt := 15) (pf := 13) hc_X2_reason dX2_reason_10 rfl rfl e (fun _ e => ?_) (fun _ e => ?_)
    · refine v_aload_n (pc' := 16) hc_X2_reason dX2_reason_15 rfl rfl 3 rfl ?_
      refine v_gnI (pc' := 19) hc_X2_reason ho_X2_reason KX10 6 (Nat.le_of_ble_eq_true rfl) q1259 rfl dX2_reason_16 rfl e (fun v15 _ e => ?_)
      refine v_if_eq (pt := 24) (pf := 22) hc_X2_reason dX2_reason_19 rfl rfl e (fun _ e => ?_) (fun _ e => ?_)
      · refine v_aload_n (pc' := 25) hc_X2_reason dX2_reason_24 rfl rfl 0 rfl ?_
        refine v_ifnull (pc' := 28) hc_X2_reason dX2_reason_25 rfl ?_
        refine v_aload_n (pc' := 29) hc_X2_reason dX2_reason_28 rfl rfl 0 rfl ?_
        refine v_gnI (pc' := 32) hc_X2_reason ho_X2_reason KX10 0 (Nat.le_of_ble_eq_true rfl) q1242 rfl dX2_reason_29 rfl e (fun v16 _ e => ?_)
        refine v_aload_n (pc' := 33) hc_X2_reason dX2_reason_32 rfl rfl 3 rfl ?_
        refine v_gnI (pc' := 36) hc_X2_reason ho_X2_reason KX10 0 (Nat.le_of_ble_eq_true rfl) q1242 rfl dX2_reason_33 rfl e (fun v17 _ e => ?_)
        refine v_icmp_eq (pt := 42) (pf := 39) hc_X2_reason dX2_reason_36 rfl rfl e (fun _ e => ?_) (fun _ e => ?_)
        · refine v_pick [1, 2, 3, 0] rfl ?_
          exact w_X2_reason_j42 D l hl as h0 x0 x1 x2 (some v5) h13 e
        · refine v_bipush (pc' := 41) (v := 6) hc_X2_reason dX2_reason_39 rfl rfl ?_
          obtain ⟨rfl, rfl⟩ := ret_of e
          exact v_iret hc_X2_reason rfl dX2_reason_41 rfl rfl
      · refine v_iconst (pc' := 23) (v := 5) hc_X2_reason dX2_reason_22 rfl rfl ?_
        obtain ⟨rfl, rfl⟩ := ret_of e
        exact v_iret hc_X2_reason rfl dX2_reason_23 rfl rfl
    · refine v_iconst (pc' := 14) (v := 4) hc_X2_reason dX2_reason_13 rfl rfl ?_
      obtain ⟨rfl, rfl⟩ := ret_of e
      exact v_iret hc_X2_reason rfl dX2_reason_14 rfl rfl
theorem w_X2_reason (D : va_G) (l : Launch) (hl : l.stackTraces = false) (x0 : Nat) (x1 : Nat) (x2 : Nat) (h : AH) {r : Int32} {hF : AH} (e : f_X2_reason x0 x1 x2 h = some (r, hF)) : MetV D l yX2_reason (Cond.code yX2_reason cX2_reason 4 (Option.some .int)) 7 177 [.ref x0, .ref x1, .ref x2] h hF (oI r) :=
  met_ofF (by decide +kernel) hl (Nat.le_of_ble_eq_true rfl) rfl (v_X2_reason D l hl [.ref x0, .ref x1, .ref x2] h x0 x1 x2 h e)
/-! BlockPapers$Workshop.detail(LBlockPapers$Room;II)I  -/
abbrev G_X2_detail (D : va_G) (l : Launch) (as : List Value) (h0 hF : AH) (o : Out) : CT := (D, l, (yX2_detail.cls, yX2_detail, cX2_detail, 5, (Option.some .int), 7, 177, []), as, h0, hF, o)
theorem hc_X2_detail {D : va_G} {l : Launch} {as : List Value} {h0 hF : AH} {o : Out} : gC (G_X2_detail D l as h0 hF o) = cX2_detail := rfl
theorem ho_X2_detail {D : va_G} {l : Launch} {as : List Value} {h0 hF : AH} {o : Out} : gO (G_X2_detail D l as h0 hF o) = "BlockPapers$Workshop" := rfl
theorem hp_X2_detail {D : va_G} {l : Launch} {as : List Value} {h0 hF : AH} {o : Out} (pc : Nat) : ∀ z ∈ tableOf (gHd (G_X2_detail D l as h0 hF o)), covers z pc = false := hpN
def f_X2_detail (x0 : Nat) (x1 : Nat) (x2 : Int32) (x3 : Int32) (h : AH) : Option (Int32 × AH) :=
  bd (gtR h 1 x0 2) fun v1 =>
  gd (isC h 16 v1) <|
  bd2 (f_J2_get v1 x2 h) fun r3 h4 =>
  gd (isC h4 9 r3) <|
  if x3 = 0 then (
    some ((0 : Int32), h4)
  ) else (
  if x3 = 4 then (
    bd (gtI h4 4 x1 1) fun v8 =>
    some (v8, h4)
  ) else (
  if x3 = 5 then (
    some (x2, h4)
  ) else (
  if x3 = 6 then (
    gd (isC h4 1 x0) <|
    bd2 (f_X2_first x0 x1 h4) fun r12 h13 =>
    optR r12 (
      none
    ) fun v15 =>
    bd (gtI h13 9 v15 0) fun v16 =>
    some (v16, h13)
  ) else (
  if x3 = 7 then (
    gd (isC h4 1 x0) <|
    bd2 (f_X2_first x0 x1 h4) fun r19 h20 =>
    optR r19 (
      none
    ) fun v22 =>
    bd (gtI h20 9 v22 2) fun v23 =>
    some (v23, h20)
  ) else (
  if x3 = 8 then (
    gd (isC h4 1 x0) <|
    bd2 (f_X2_unlike x0 x1 r3 h4) fun r26 h27 =>
    some (r26, h27)
  ) else (
  gd (isC h4 1 x0) <|
  bd2 (f_X2_missing x0 x1 r3 h4) fun r31 h32 =>
  some (r31, h32)
  ))))))
theorem v_X2_detail (D : va_G) (l : Launch) (hl : l.stackTraces = false) (as : List Value) (h0 : AH) {r : Int32} {hF : AH} (x0 : Nat) (x1 : Nat) (x2 : Int32) (x3 : Int32) (h : AH) (e : f_X2_detail x0 x1 x2 x3 h = some (r, hF)) : V (G_X2_detail D l as h0 hF (oI r)) h 0 [(0, .ref x0), (1, .ref x1), (2, .int x2), (3, .int x3)] [] := by
  unfold f_X2_detail at e
  refine v_aload_n (pc' := 1) hc_X2_detail dX2_detail_0 rfl rfl 0 rfl ?_
  refine v_gfR (pc' := 4) hc_X2_detail ho_X2_detail KX2 2 (Nat.le_of_ble_eq_true rfl) q169 (Or.inl rfl) dX2_detail_1 rfl e (fun v1 _ e => ?_)
  refine v_iload_n (pc' := 5) hc_X2_detail dX2_detail_4 rfl rfl 2 rfl ?_
  obtain ⟨c2, e⟩ := gd_of e
  obtain ⟨r3, h4, e5, e⟩ := bd2_of e
  refine k_F (pc' := 10) (x := ⟨"java/util/List", "get", "(I)Ljava/lang/Object;"⟩) (y := ⟨"java/util/ArrayList", "get", "(I)Ljava/lang/Object;"⟩) (ci := 16) (n := 1) hc_X2_detail ho_X2_detail rfl c2 (w_J2_get D l hl v1 x2 h e5) (wA_l q515) (by decide +kernel) q401 q403 q79 q405 hy_23 ⟨Nat.le_of_ble_eq_true rfl, Nat.le_of_ble_eq_true rfl⟩ rfl rfl (Nat.le_of_ble_eq_true rfl) dX2_detail_5 rfl (kS ?_) kN
  obtain ⟨c6, e⟩ := gd_of e
  refine v_cast (pc' := 13) (ci := 9) hc_X2_detail ho_X2_detail rfl q516 (Or.inl rfl) dX2_detail_10 rfl c6 ?_
  refine v_astore (pc' := 15) (lv' := [(4, .ref r3), (0, .ref x0), (1, .ref x1), (2, .int x2), (3, .int x3)]) hc_X2_detail dX2_detail_13 rfl (Nat.le_of_ble_eq_true rfl) rfl ?_
  refine v_iload_n (pc' := 16) hc_X2_detail dX2_detail_15 rfl rfl 4 rfl ?_
  rcases ite_cs e with ⟨n7, e⟩ | ⟨n7, e⟩
  · refine v_tbl (off := 52) (pt := 68) hc_X2_detail dX2_detail_16 rfl rfl (by rw [n7]; rfl) rfl ?_
    refine v_iconst (pc' := 69) (v := 0) hc_X2_detail dX2_detail_68 rfl rfl ?_
    refine v_goto (pt := 122) hc_X2_detail dX2_detail_69 rfl ?_
    obtain ⟨rfl, rfl⟩ := ret_of e
    exact v_iret hc_X2_detail rfl dX2_detail_122 rfl rfl
  rcases ite_cs e with ⟨n9, e⟩ | ⟨n9, e⟩
  · refine v_tbl (off := 56) (pt := 72) hc_X2_detail dX2_detail_16 rfl rfl (by rw [n9]; rfl) rfl ?_
    refine v_aload_n (pc' := 73) hc_X2_detail dX2_detail_72 rfl rfl 2 rfl ?_
    refine v_gnI (pc' := 76) hc_X2_detail ho_X2_detail KX5 1 (Nat.le_of_ble_eq_true rfl) q877 rfl dX2_detail_73 rfl e (fun v8 _ e => ?_)
    refine v_goto (pt := 122) hc_X2_detail dX2_detail_76 rfl ?_
    obtain ⟨rfl, rfl⟩ := ret_of e
    exact v_iret hc_X2_detail rfl dX2_detail_122 rfl rfl
  rcases ite_cs e with ⟨n10, e⟩ | ⟨n10, e⟩
  · refine v_tbl (off := 63) (pt := 79) hc_X2_detail dX2_detail_16 rfl rfl (by rw [n10]; rfl) rfl ?_
    refine v_iload_n (pc' := 80) hc_X2_detail dX2_detail_79 rfl rfl 3 rfl ?_
    refine v_goto (pt := 122) hc_X2_detail dX2_detail_80 rfl ?_
    obtain ⟨rfl, rfl⟩ := ret_of e
    exact v_iret hc_X2_detail rfl dX2_detail_122 rfl rfl
  rcases ite_cs e with ⟨n17, e⟩ | ⟨n17, e⟩
  · refine v_tbl (off := 67) (pt := 83) hc_X2_detail dX2_detail_16 rfl rfl (by rw [n17]; rfl) rfl ?_
    refine v_aload_n (pc' := 84) hc_X2_detail dX2_detail_83 rfl rfl 1 rfl ?_
    refine v_aload_n (pc' := 85) hc_X2_detail dX2_detail_84 rfl rfl 2 rfl ?_
    obtain ⟨c11, e⟩ := gd_of e
    obtain ⟨r12, h13, e14, e⟩ := bd2_of e
    replace e := optR_of e
    rcases e with ⟨z, e⟩ | ⟨v15, z, e⟩
    · subst z
      refine k_V (pc' := 88) (ci := 1) (n := 1) hc_X2_detail ho_X2_detail rfl c11 (w_X2_first D l hl x0 x1 h4 e14) (wA_l q1318) q1319 (wA_l q1320) q76 q1321 hy_71 ⟨Nat.le_of_ble_eq_true rfl, Nat.le_of_ble_eq_true rfl⟩ rfl rfl (Nat.le_of_ble_eq_true rfl) dX2_detail_85 rfl (kS ?_) kN
      exact nomatch e
    · subst z
      refine k_V (pc' := 88) (ci := 1) (n := 1) hc_X2_detail ho_X2_detail rfl c11 (w_X2_first D l hl x0 x1 h4 e14) (wA_l q1318) q1319 (wA_l q1320) q76 q1321 hy_71 ⟨Nat.le_of_ble_eq_true rfl, Nat.le_of_ble_eq_true rfl⟩ rfl rfl (Nat.le_of_ble_eq_true rfl) dX2_detail_85 rfl (kS ?_) kN
      refine v_gnI (pc' := 91) hc_X2_detail ho_X2_detail KX10 0 (Nat.le_of_ble_eq_true rfl) q1242 rfl dX2_detail_88 rfl e (fun v16 _ e => ?_)
      refine v_goto (pt := 122) hc_X2_detail dX2_detail_91 rfl ?_
      obtain ⟨rfl, rfl⟩ := ret_of e
      exact v_iret hc_X2_detail rfl dX2_detail_122 rfl rfl
  rcases ite_cs e with ⟨n24, e⟩ | ⟨n24, e⟩
  · refine v_tbl (off := 78) (pt := 94) hc_X2_detail dX2_detail_16 rfl rfl (by rw [n24]; rfl) rfl ?_
    refine v_aload_n (pc' := 95) hc_X2_detail dX2_detail_94 rfl rfl 1 rfl ?_
    refine v_aload_n (pc' := 96) hc_X2_detail dX2_detail_95 rfl rfl 2 rfl ?_
    obtain ⟨c18, e⟩ := gd_of e
    obtain ⟨r19, h20, e21, e⟩ := bd2_of e
    replace e := optR_of e
    rcases e with ⟨z, e⟩ | ⟨v22, z, e⟩
    · subst z
      refine k_V (pc' := 99) (ci := 1) (n := 1) hc_X2_detail ho_X2_detail rfl c18 (w_X2_first D l hl x0 x1 h4 e21) (wA_l q1318) q1319 (wA_l q1320) q76 q1321 hy_71 ⟨Nat.le_of_ble_eq_true rfl, Nat.le_of_ble_eq_true rfl⟩ rfl rfl (Nat.le_of_ble_eq_true rfl) dX2_detail_96 rfl (kS ?_) kN
      exact nomatch e
    · subst z
      refine k_V (pc' := 99) (ci := 1) (n := 1) hc_X2_detail ho_X2_detail rfl c18 (w_X2_first D l hl x0 x1 h4 e21) (wA_l q1318) q1319 (wA_l q1320) q76 q1321 hy_71 ⟨Nat.le_of_ble_eq_true rfl, Nat.le_of_ble_eq_true rfl⟩ rfl rfl (Nat.le_of_ble_eq_true rfl) dX2_detail_96 rfl (kS ?_) kN
      refine v_gnI (pc' := 102) hc_X2_detail ho_X2_detail KX10 2 (Nat.le_of_ble_eq_true rfl) q1246 rfl dX2_detail_99 rfl e (fun v23 _ e => ?_)
      refine v_goto (pt := 122) hc_X2_detail dX2_detail_102 rfl ?_
      obtain ⟨rfl, rfl⟩ := ret_of e
      exact v_iret hc_X2_detail rfl dX2_detail_122 rfl rfl
  rcases ite_cs e with ⟨n29, e⟩ | ⟨n29, e⟩
  · refine v_tbl (off := 89) (pt := 105) hc_X2_detail dX2_detail_16 rfl rfl (by rw [n29]; rfl) rfl ?_
    refine v_aload_n (pc' := 106) hc_X2_detail dX2_detail_105 rfl rfl 1 rfl ?_
    refine v_aload_n (pc' := 107) hc_X2_detail dX2_detail_106 rfl rfl 2 rfl ?_
    refine v_aload (pc' := 109) hc_X2_detail dX2_detail_107 rfl 0 rfl ?_
    obtain ⟨c25, e⟩ := gd_of e
    obtain ⟨r26, h27, e28, e⟩ := bd2_of e
    refine k_V (pc' := 112) (ci := 1) (n := 2) hc_X2_detail ho_X2_detail rfl c25 (w_X2_unlike D l hl x0 x1 r3 h4 e28) (wA_l q1331) q1333 (wA_l qs9) q76 q1334 hy_74 ⟨Nat.le_of_ble_eq_true rfl, Nat.le_of_ble_eq_true rfl⟩ rfl rfl (Nat.le_of_ble_eq_true rfl) dX2_detail_109 rfl (kS ?_) kN
    refine v_goto (pt := 122) hc_X2_detail dX2_detail_112 rfl ?_
    obtain ⟨rfl, rfl⟩ := ret_of e
    exact v_iret hc_X2_detail rfl dX2_detail_122 rfl rfl
  refine v_tbl (off := 99) (pt := 115) hc_X2_detail dX2_detail_16 rfl rfl (lk_c (lk_n n7 rfl) (lk_d (lk_d (lk_d (lk_c (lk_n n9 rfl) (lk_c (lk_n n10 rfl) (lk_c (lk_n n17 rfl) (lk_c (lk_n n24 rfl) (lk_c (lk_n n29 rfl) lk_z))))))))) rfl ?_
  refine v_aload_n (pc' := 116) hc_X2_detail dX2_detail_115 rfl rfl 1 rfl ?_
  refine v_aload_n (pc' := 117) hc_X2_detail dX2_detail_116 rfl rfl 2 rfl ?_
  refine v_aload (pc' := 119) hc_X2_detail dX2_detail_117 rfl 0 rfl ?_
  obtain ⟨c30, e⟩ := gd_of e
  obtain ⟨r31, h32, e33, e⟩ := bd2_of e
  refine k_V (pc' := 122) (ci := 1) (n := 2) hc_X2_detail ho_X2_detail rfl c30 (w_X2_missing D l hl x0 x1 r3 h4 e33) (wA_l q1342) q1344 (wA_l qs10) q76 q1345 hy_81 ⟨Nat.le_of_ble_eq_true rfl, Nat.le_of_ble_eq_true rfl⟩ rfl rfl (Nat.le_of_ble_eq_true rfl) dX2_detail_119 rfl (kS ?_) kN
  obtain ⟨rfl, rfl⟩ := ret_of e
  exact v_iret hc_X2_detail rfl dX2_detail_122 rfl rfl
theorem w_X2_detail (D : va_G) (l : Launch) (hl : l.stackTraces = false) (x0 : Nat) (x1 : Nat) (x2 : Int32) (x3 : Int32) (h : AH) {r : Int32} {hF : AH} (e : f_X2_detail x0 x1 x2 x3 h = some (r, hF)) : MetV D l yX2_detail (Cond.code yX2_detail cX2_detail 5 (Option.some .int)) 7 177 [.ref x0, .ref x1, .int x2, .int x3] h hF (oI r) :=
  met_ofF (by decide +kernel) hl (Nat.le_of_ble_eq_true rfl) rfl (v_X2_detail D l hl [.ref x0, .ref x1, .int x2, .int x3] h x0 x1 x2 x3 h e)
/-! BlockPapers$Drop.<init>(IIII)V  -/
abbrev G_X12_init (D : va_G) (l : Launch) (as : List Value) (h0 hF : AH) (o : Out) : CT := (D, l, (yX12_init.cls, yX12_init, cX12_init, 5, (Option.none : Option FieldType), 1, 48, []), as, h0, hF, o)
theorem hc_X12_init {D : va_G} {l : Launch} {as : List Value} {h0 hF : AH} {o : Out} : gC (G_X12_init D l as h0 hF o) = cX12_init := rfl
theorem ho_X12_init {D : va_G} {l : Launch} {as : List Value} {h0 hF : AH} {o : Out} : gO (G_X12_init D l as h0 hF o) = "BlockPapers$Drop" := rfl
theorem hp_X12_init {D : va_G} {l : Launch} {as : List Value} {h0 hF : AH} {o : Out} (pc : Nat) : ∀ z ∈ tableOf (gHd (G_X12_init D l as h0 hF o)), covers z pc = false := hpN
def f_X12_init (x0 : Nat) (x1 : Int32) (x2 : Int32) (x3 : Int32) (x4 : Int32) (h : AH) : Option (Unit × AH) :=
  bd (stF h 10 x0 0 (.int x1)) fun h1 =>
  bd (stF h1 10 x0 1 (.int x2)) fun h2 =>
  bd (stF h2 10 x0 2 (.int x3)) fun h3 =>
  bd (stF h3 10 x0 3 (.int x4)) fun h4 =>
  some ((), h4)
theorem v_X12_init (D : va_G) (l : Launch) (hl : l.stackTraces = false) (as : List Value) (h0 : AH) {r : Unit} {hF : AH} (x0 : Nat) (x1 : Int32) (x2 : Int32) (x3 : Int32) (x4 : Int32) (h : AH) (e : f_X12_init x0 x1 x2 x3 x4 h = some (r, hF)) : V (G_X12_init D l as h0 hF (oV r)) h 0 [(0, .ref x0), (1, .int x1), (2, .int x2), (3, .int x3), (4, .int x4)] [] := by
  unfold f_X12_init at e
  refine v_aload_n (pc' := 1) hc_X12_init dX12_init_0 rfl rfl 0 rfl ?_
  refine v_oinit (pc' := 4) hc_X12_init ho_X12_init q1396 q127 q128 ⟨Nat.le_of_ble_eq_true rfl, Nat.le_of_ble_eq_true rfl⟩ dX12_init_1 rfl ?_
  refine v_aload_n (pc' := 5) hc_X12_init dX12_init_4 rfl rfl 0 rfl ?_
  refine v_iload_n (pc' := 6) hc_X12_init dX12_init_5 rfl rfl 1 rfl ?_
  refine v_pfF (pc' := 9) hc_X12_init ho_X12_init rfl KX12 0 (Nat.le_of_ble_eq_true rfl) q1397 rfl rfl rfl dX12_init_6 rfl rfl rfl e (fun h1 _ e => ?_)
  refine v_aload_n (pc' := 10) hc_X12_init dX12_init_9 rfl rfl 0 rfl ?_
  refine v_iload_n (pc' := 11) hc_X12_init dX12_init_10 rfl rfl 2 rfl ?_
  refine v_pfF (pc' := 14) hc_X12_init ho_X12_init rfl KX12 1 (Nat.le_of_ble_eq_true rfl) q1400 rfl rfl rfl dX12_init_11 rfl rfl rfl e (fun h2 _ e => ?_)
  refine v_aload_n (pc' := 15) hc_X12_init dX12_init_14 rfl rfl 0 rfl ?_
  refine v_iload_n (pc' := 16) hc_X12_init dX12_init_15 rfl rfl 3 rfl ?_
  refine v_pfF (pc' := 19) hc_X12_init ho_X12_init rfl KX12 2 (Nat.le_of_ble_eq_true rfl) q1403 rfl rfl rfl dX12_init_16 rfl rfl rfl e (fun h3 _ e => ?_)
  refine v_aload_n (pc' := 20) hc_X12_init dX12_init_19 rfl rfl 0 rfl ?_
  refine v_iload (pc' := 22) hc_X12_init dX12_init_20 rfl 4 rfl ?_
  refine v_pfF (pc' := 25) hc_X12_init ho_X12_init rfl KX12 3 (Nat.le_of_ble_eq_true rfl) q1406 rfl rfl rfl dX12_init_22 rfl rfl rfl e (fun h4 _ e => ?_)
  obtain ⟨rfl, rfl⟩ := ret_of e
  exact v_ret hc_X12_init rfl dX12_init_25 rfl rfl
theorem w_X12_init (D : va_G) (l : Launch) (hl : l.stackTraces = false) (x0 : Nat) (x1 : Int32) (x2 : Int32) (x3 : Int32) (x4 : Int32) (h : AH) {r : Unit} {hF : AH} (e : f_X12_init x0 x1 x2 x3 x4 h = some (r, hF)) : MetV D l yX12_init (Cond.code yX12_init cX12_init 5 (Option.none : Option FieldType)) 1 48 [.ref x0, .int x1, .int x2, .int x3, .int x4] h hF (oV r) :=
  met_ofF (by decide +kernel) hl (Nat.le_of_ble_eq_true rfl) rfl (v_X12_init D l hl [.ref x0, .int x1, .int x2, .int x3, .int x4] h x0 x1 x2 x3 x4 h e)
/-! BlockPapers$Roll.cut(I)LBlockPapers$Roll;  -/
abbrev G_X10_cut (D : va_G) (l : Launch) (as : List Value) (h0 hF : AH) (o : Out) : CT := (D, l, (yX10_cut.cls, yX10_cut, cX10_cut, 2, (Option.some (.object "BlockPapers$Roll")), 2, 75, []), as, h0, hF, o)
theorem hc_X10_cut {D : va_G} {l : Launch} {as : List Value} {h0 hF : AH} {o : Out} : gC (G_X10_cut D l as h0 hF o) = cX10_cut := rfl
theorem ho_X10_cut {D : va_G} {l : Launch} {as : List Value} {h0 hF : AH} {o : Out} : gO (G_X10_cut D l as h0 hF o) = "BlockPapers$Roll" := rfl
theorem hp_X10_cut {D : va_G} {l : Launch} {as : List Value} {h0 hF : AH} {o : Out} (pc : Nat) : ∀ z ∈ tableOf (gHd (G_X10_cut D l as h0 hF o)), covers z pc = false := hpN
def f_X10_cut (x0 : Nat) (x1 : Int32) (h : AH) : Option (Nat × AH) :=
  bd2 (nwX h 9 7 fsX10) fun a2 h1 =>
  bd (gtI h1 9 x0 0) fun v3 =>
  bd (gtI h1 9 x0 1) fun v4 =>
  bd (gtI h1 9 x0 2) fun v5 =>
  bd (gtI h1 9 x0 3) fun v6 =>
  bd (gtI h1 9 x0 4) fun v7 =>
  bd (gtI h1 9 x0 5) fun v8 =>
  bd (gtI h1 9 x0 6) fun v9 =>
  bd2 (f_X10_init_2 a2 v3 v4 v5 v6 v7 (v8 + x1) v9 h1) fun r10 h11 =>
  some (a2, h11)
theorem v_X10_cut (D : va_G) (l : Launch) (hl : l.stackTraces = false) (as : List Value) (h0 : AH) {r : Nat} {hF : AH} (x0 : Nat) (x1 : Int32) (h : AH) (e : f_X10_cut x0 x1 h = some (r, hF)) : V (G_X10_cut D l as h0 hF (oR r)) h 0 [(0, .ref x0), (1, .int x1)] [] := by
  unfold f_X10_cut at e
  refine v_newX (pc' := 3) hc_X10_cut ho_X10_cut KX10 q1300 q1232 q109 rfl dfX10 dX10_cut_0 rfl e (fun a2 h1 _ e => ?_)
  refine v_dup (pc' := 4) hc_X10_cut dX10_cut_3 rfl rfl ?_
  refine v_aload_n (pc' := 5) hc_X10_cut dX10_cut_4 rfl rfl 0 rfl ?_
  refine v_gfI (pc' := 8) hc_X10_cut ho_X10_cut KX10 0 (Nat.le_of_ble_eq_true rfl) q1240 (Or.inl rfl) dX10_cut_5 rfl e (fun v3 _ e => ?_)
  refine v_aload_n (pc' := 9) hc_X10_cut dX10_cut_8 rfl rfl 0 rfl ?_
  refine v_gfI (pc' := 12) hc_X10_cut ho_X10_cut KX10 1 (Nat.le_of_ble_eq_true rfl) q1243 (Or.inl rfl) dX10_cut_9 rfl e (fun v4 _ e => ?_)
  refine v_aload_n (pc' := 13) hc_X10_cut dX10_cut_12 rfl rfl 0 rfl ?_
  refine v_gfI (pc' := 16) hc_X10_cut ho_X10_cut KX10 2 (Nat.le_of_ble_eq_true rfl) q1245 (Or.inl rfl) dX10_cut_13 rfl e (fun v5 _ e => ?_)
  refine v_aload_n (pc' := 17) hc_X10_cut dX10_cut_16 rfl rfl 0 rfl ?_
  refine v_gfI (pc' := 20) hc_X10_cut ho_X10_cut KX10 3 (Nat.le_of_ble_eq_true rfl) q1248 (Or.inl rfl) dX10_cut_17 rfl e (fun v6 _ e => ?_)
  refine v_aload_n (pc' := 21) hc_X10_cut dX10_cut_20 rfl rfl 0 rfl ?_
  refine v_gfI (pc' := 24) hc_X10_cut ho_X10_cut KX10 4 (Nat.le_of_ble_eq_true rfl) q1251 (Or.inl rfl) dX10_cut_21 rfl e (fun v7 _ e => ?_)
  refine v_aload_n (pc' := 25) hc_X10_cut dX10_cut_24 rfl rfl 0 rfl ?_
  refine v_gfI (pc' := 28) hc_X10_cut ho_X10_cut KX10 5 (Nat.le_of_ble_eq_true rfl) q1255 (Or.inl rfl) dX10_cut_25 rfl e (fun v8 _ e => ?_)
  refine v_iload_n (pc' := 29) hc_X10_cut dX10_cut_28 rfl rfl 1 rfl ?_
  refine v_iadd (pc' := 30) hc_X10_cut dX10_cut_29 rfl ?_
  refine v_aload_n (pc' := 31) hc_X10_cut dX10_cut_30 rfl rfl 0 rfl ?_
  refine v_gfI (pc' := 34) hc_X10_cut ho_X10_cut KX10 6 (Nat.le_of_ble_eq_true rfl) q1258 (Or.inl rfl) dX10_cut_31 rfl e (fun v9 _ e => ?_)
  obtain ⟨r10, h11, e12, e⟩ := bd2_of e
  refine k_I (pc' := 37) (n := 7) hc_X10_cut ho_X10_cut (w_X10_init_2 D l hl a2 v3 v4 v5 v6 v7 (v8 + x1) v9 h1 e12) (wA_l q1236) q1237 q109 q1238 rfl hy_59 ⟨Nat.le_of_ble_eq_true rfl, Nat.le_of_ble_eq_true rfl⟩ rfl rfl (Nat.le_of_ble_eq_true rfl) dX10_cut_34 rfl (kU ?_) kN
  obtain ⟨rfl, rfl⟩ := ret_of e
  exact v_aret hc_X10_cut rfl (Or.inl ⟨_, rfl⟩) (Or.inr ⟨_, rfl⟩) dX10_cut_37 rfl rfl
theorem w_X10_cut (D : va_G) (l : Launch) (hl : l.stackTraces = false) (x0 : Nat) (x1 : Int32) (h : AH) {r : Nat} {hF : AH} (e : f_X10_cut x0 x1 h = some (r, hF)) : MetV D l yX10_cut (Cond.code yX10_cut cX10_cut 2 (Option.some (.object "BlockPapers$Roll"))) 2 75 [.ref x0, .int x1] h hF (oR r) :=
  met_ofF (by decide +kernel) hl (Nat.le_of_ble_eq_true rfl) rfl (v_X10_cut D l hl [.ref x0, .int x1] h x0 x1 h e)
/-! BlockPapers$Workshop.hang(LBlockPapers$Room;I)I  -/
abbrev G_X2_hang_2 (D : va_G) (l : Launch) (as : List Value) (h0 hF : AH) (o : Out) : CT := (D, l, (yX2_hang_2.cls, yX2_hang_2, cX2_hang_2, 7, (Option.some .int), 8, 200, []), as, h0, hF, o)
theorem hc_X2_hang_2 {D : va_G} {l : Launch} {as : List Value} {h0 hF : AH} {o : Out} : gC (G_X2_hang_2 D l as h0 hF o) = cX2_hang_2 := rfl
theorem ho_X2_hang_2 {D : va_G} {l : Launch} {as : List Value} {h0 hF : AH} {o : Out} : gO (G_X2_hang_2 D l as h0 hF o) = "BlockPapers$Workshop" := rfl
theorem hp_X2_hang_2 {D : va_G} {l : Launch} {as : List Value} {h0 hF : AH} {o : Out} (pc : Nat) : ∀ z ∈ tableOf (gHd (G_X2_hang_2 D l as h0 hF o)), covers z pc = false := hpN
def f_X2_hang_2 (x0 : Nat) (x1 : Nat) (x2 : Int32) (h : AH) : Option (Int32 × AH) :=
  bd (gtR h 1 x0 2) fun v1 =>
  gd (isC h 16 v1) <|
  bd2 (f_J2_get v1 x2 h) fun r3 h4 =>
  gd (isC h4 9 r3) <|
  bd (gtI h4 9 r3 5) fun v7 =>
  bd (gtR h4 4 x1 2) fun v8 =>
  gd (isC h4 16 v8) <|
  bd2 (f_J2_size v8 h4) fun r10 h11 =>
  gd (isC h11 1 x0) <|
  bd2 (f_X2_begin x0 x1 r10 h11) fun r14 h15 =>
  gd (isC h15 1 x0) <|
  bd2 (f_X2_waste x0 r3 v7 r14 h15) fun r18 h19 =>
  bd (gtR h19 1 x0 0) fun v21 =>
  bd (gtI h19 9 r3 0) fun v22 =>
  gd (isC h19 16 v21) <|
  bd2 (f_J2_get v21 v22 h19) fun r24 h25 =>
  gd (isC h25 7 r24) <|
  bd (gtI h25 9 r3 5) fun v28 =>
  gd (isC h25 7 r24) <|
  bd2 (f_X11_within r24 (v28 + r18) h25) fun r30 h31 =>
  bd (gtR h31 4 x1 2) fun v33 =>
  bd2 (nwX h31 10 4 fsX12) fun a35 h34 =>
  bd (gtI h34 9 r3 3) fun v36 =>
  bd2 (f_X12_init a35 x2 r30 v36 r18 h34) fun r37 h38 =>
  gd (isC h38 16 v33) <|
  bd2 (f_J2_add v33 a35 h38) fun r41 h42 =>
  bd (gtI h42 4 x1 3) fun v44 =>
  bd (stF h42 4 x1 3 (.int (v44 + r18))) fun h45 =>
  bd (gtR h45 1 x0 2) fun v46 =>
  bd (gtI h45 4 x1 0) fun v47 =>
  gd (isC h45 9 r3) <|
  bd2 (f_X10_cut r3 (r18 + v47) h45) fun r49 h50 =>
  gd (isC h50 16 v46) <|
  bd2 (f_J2_set v46 x2 r49 h50) fun r53 h54 =>
  gd (isC h54 9 r53) <|
  some (r18, h54)
theorem v_X2_hang_2 (D : va_G) (l : Launch) (hl : l.stackTraces = false) (as : List Value) (h0 : AH) {r : Int32} {hF : AH} (x0 : Nat) (x1 : Nat) (x2 : Int32) (h : AH) (e : f_X2_hang_2 x0 x1 x2 h = some (r, hF)) : V (G_X2_hang_2 D l as h0 hF (oI r)) h 0 [(0, .ref x0), (1, .ref x1), (2, .int x2)] [] := by
  unfold f_X2_hang_2 at e
  refine v_aload_n (pc' := 1) hc_X2_hang_2 dX2_hang_2_0 rfl rfl 0 rfl ?_
  refine v_gfR (pc' := 4) hc_X2_hang_2 ho_X2_hang_2 KX2 2 (Nat.le_of_ble_eq_true rfl) q169 (Or.inl rfl) dX2_hang_2_1 rfl e (fun v1 _ e => ?_)
  refine v_iload_n (pc' := 5) hc_X2_hang_2 dX2_hang_2_4 rfl rfl 2 rfl ?_
  obtain ⟨c2, e⟩ := gd_of e
  obtain ⟨r3, h4, e5, e⟩ := bd2_of e
  refine k_F (pc' := 10) (x := ⟨"java/util/List", "get", "(I)Ljava/lang/Object;"⟩) (y := ⟨"java/util/ArrayList", "get", "(I)Ljava/lang/Object;"⟩) (ci := 16) (n := 1) hc_X2_hang_2 ho_X2_hang_2 rfl c2 (w_J2_get D l hl v1 x2 h e5) (wA_l q515) (by decide +kernel) q401 q403 q79 q405 hy_23 ⟨Nat.le_of_ble_eq_true rfl, Nat.le_of_ble_eq_true rfl⟩ rfl rfl (Nat.le_of_ble_eq_true rfl) dX2_hang_2_5 rfl (kS ?_) kN
  obtain ⟨c6, e⟩ := gd_of e
  refine v_cast (pc' := 13) (ci := 9) hc_X2_hang_2 ho_X2_hang_2 rfl q516 (Or.inl rfl) dX2_hang_2_10 rfl c6 ?_
  refine v_astore_n (pc' := 14) (lv' := [(3, .ref r3), (0, .ref x0), (1, .ref x1), (2, .int x2)]) hc_X2_hang_2 dX2_hang_2_13 rfl rfl (Nat.le_of_ble_eq_true rfl) rfl ?_
  refine v_aload_n (pc' := 15) hc_X2_hang_2 dX2_hang_2_14 rfl rfl 1 rfl ?_
  refine v_aload_n (pc' := 16) hc_X2_hang_2 dX2_hang_2_15 rfl rfl 0 rfl ?_
  refine v_aload_n (pc' := 17) hc_X2_hang_2 dX2_hang_2_16 rfl rfl 0 rfl ?_
  refine v_gnI (pc' := 20) hc_X2_hang_2 ho_X2_hang_2 KX10 5 (Nat.le_of_ble_eq_true rfl) q1256 rfl dX2_hang_2_17 rfl e (fun v7 _ e => ?_)
  refine v_aload_n (pc' := 21) hc_X2_hang_2 dX2_hang_2_20 rfl rfl 1 rfl ?_
  refine v_aload_n (pc' := 22) hc_X2_hang_2 dX2_hang_2_21 rfl rfl 2 rfl ?_
  refine v_aload_n (pc' := 23) hc_X2_hang_2 dX2_hang_2_22 rfl rfl 2 rfl ?_
  refine v_gnR (pc' := 26) hc_X2_hang_2 ho_X2_hang_2 KX5 2 (Nat.le_of_ble_eq_true rfl) q882 rfl dX2_hang_2_23 rfl e (fun v8 _ e => ?_)
  obtain ⟨c9, e⟩ := gd_of e
  obtain ⟨r10, h11, e12, e⟩ := bd2_of e
  refine k_F (pc' := 31) (x := ⟨"java/util/List", "size", "()I"⟩) (y := ⟨"java/util/ArrayList", "size", "()I"⟩) (ci := 16) (n := 0) hc_X2_hang_2 ho_X2_hang_2 rfl c9 (w_J2_size D l hl v8 h4 e12) (wA_l q513) (by decide +kernel) q348 q350 q79 q352 hy_19 ⟨Nat.le_of_ble_eq_true rfl, Nat.le_of_ble_eq_true rfl⟩ rfl rfl (Nat.le_of_ble_eq_true rfl) dX2_hang_2_26 rfl (kS ?_) kN
  obtain ⟨c13, e⟩ := gd_of e
  obtain ⟨r14, h15, e16, e⟩ := bd2_of e
  refine k_V (pc' := 34) (ci := 1) (n := 2) hc_X2_hang_2 ho_X2_hang_2 rfl c13 (w_X2_begin D l hl x0 x1 r10 h11 e16) (wA_l q1346) q1347 (wA_l q1348) q76 q1349 hy_78 ⟨Nat.le_of_ble_eq_true rfl, Nat.le_of_ble_eq_true rfl⟩ rfl rfl (Nat.le_of_ble_eq_true rfl) dX2_hang_2_31 rfl (kS ?_) kN
  obtain ⟨c17, e⟩ := gd_of e
  obtain ⟨r18, h19, e20, e⟩ := bd2_of e
  refine k_V (pc' := 37) (ci := 1) (n := 3) hc_X2_hang_2 ho_X2_hang_2 rfl c17 (w_X2_waste D l hl x0 r3 v7 r14 h15 e20) (wA_l q1372) q1374 (wA_l qs11) q76 q1375 hy_79 ⟨Nat.le_of_ble_eq_true rfl, Nat.le_of_ble_eq_true rfl⟩ rfl rfl (Nat.le_of_ble_eq_true rfl) dX2_hang_2_34 rfl (kS ?_) kN
  refine v_istore (pc' := 39) (lv' := [(4, .int r18), (3, .ref r3), (0, .ref x0), (1, .ref x1), (2, .int x2)]) hc_X2_hang_2 dX2_hang_2_37 rfl (Nat.le_of_ble_eq_true rfl) rfl ?_
  refine v_aload_n (pc' := 40) hc_X2_hang_2 dX2_hang_2_39 rfl rfl 2 rfl ?_
  refine v_gfR (pc' := 43) hc_X2_hang_2 ho_X2_hang_2 KX2 0 (Nat.le_of_ble_eq_true rfl) q164 (Or.inl rfl) dX2_hang_2_40 rfl e (fun v21 _ e => ?_)
  refine v_aload_n (pc' := 44) hc_X2_hang_2 dX2_hang_2_43 rfl rfl 1 rfl ?_
  refine v_gnI (pc' := 47) hc_X2_hang_2 ho_X2_hang_2 KX10 0 (Nat.le_of_ble_eq_true rfl) q1242 rfl dX2_hang_2_44 rfl e (fun v22 _ e => ?_)
  obtain ⟨c23, e⟩ := gd_of e
  obtain ⟨r24, h25, e26, e⟩ := bd2_of e
  refine k_F (pc' := 52) (x := ⟨"java/util/List", "get", "(I)Ljava/lang/Object;"⟩) (y := ⟨"java/util/ArrayList", "get", "(I)Ljava/lang/Object;"⟩) (ci := 16) (n := 1) hc_X2_hang_2 ho_X2_hang_2 rfl c23 (w_J2_get D l hl v21 v22 h19 e26) (wA_l q515) (by decide +kernel) q401 q403 q79 q405 hy_23 ⟨Nat.le_of_ble_eq_true rfl, Nat.le_of_ble_eq_true rfl⟩ rfl rfl (Nat.le_of_ble_eq_true rfl) dX2_hang_2_47 rfl (kS ?_) kN
  obtain ⟨c27, e⟩ := gd_of e
  refine v_cast (pc' := 55) (ci := 7) hc_X2_hang_2 ho_X2_hang_2 rfl q1120 (Or.inl rfl) dX2_hang_2_52 rfl c27 ?_
  refine v_aload_n (pc' := 56) hc_X2_hang_2 dX2_hang_2_55 rfl rfl 1 rfl ?_
  refine v_gnI (pc' := 59) hc_X2_hang_2 ho_X2_hang_2 KX10 5 (Nat.le_of_ble_eq_true rfl) q1256 rfl dX2_hang_2_56 rfl e (fun v28 _ e => ?_)
  refine v_iload (pc' := 61) hc_X2_hang_2 dX2_hang_2_59 rfl 0 rfl ?_
  refine v_iadd (pc' := 62) hc_X2_hang_2 dX2_hang_2_61 rfl ?_
  obtain ⟨c29, e⟩ := gd_of e
  obtain ⟨r30, h31, e32, e⟩ := bd2_of e
  refine k_D (pc' := 65) (x := ⟨"BlockPapers$Block", "within", "(I)I"⟩) (owner := "BlockPapers$Patterned") (ci := 7) (n := 1) hc_X2_hang_2 ho_X2_hang_2 rfl c29 (w_X11_within D l hl r24 (v28 + r18) h25 e32) qdf2 qdf1 q1354 (by decide +kernel) q1356 q110 q1358 ⟨by decide +kernel, by decide +kernel, by decide +kernel⟩ ⟨Nat.le_of_ble_eq_true rfl, Nat.le_of_ble_eq_true rfl⟩ rfl rfl (Nat.le_of_ble_eq_true rfl) dX2_hang_2_62 rfl (kD ?_)
  refine v_istore (pc' := 67) (lv' := [(5, .int r30), (4, .int r18), (3, .ref r3), (0, .ref x0), (1, .ref x1), (2, .int x2)]) hc_X2_hang_2 dX2_hang_2_65 rfl (Nat.le_of_ble_eq_true rfl) rfl ?_
  refine v_aload_n (pc' := 68) hc_X2_hang_2 dX2_hang_2_67 rfl rfl 4 rfl ?_
  refine v_gnR (pc' := 71) hc_X2_hang_2 ho_X2_hang_2 KX5 2 (Nat.le_of_ble_eq_true rfl) q882 rfl dX2_hang_2_68 rfl e (fun v33 _ e => ?_)
  refine v_newX (pc' := 74) hc_X2_hang_2 ho_X2_hang_2 KX12 q507 q1392 q111 rfl dfX12 dX2_hang_2_71 rfl e (fun a35 h34 _ e => ?_)
  refine v_dup (pc' := 75) hc_X2_hang_2 dX2_hang_2_74 rfl rfl ?_
  refine v_iload_n (pc' := 76) hc_X2_hang_2 dX2_hang_2_75 rfl rfl 5 rfl ?_
  refine v_iload (pc' := 78) hc_X2_hang_2 dX2_hang_2_76 rfl 0 rfl ?_
  refine v_aload_n (pc' := 79) hc_X2_hang_2 dX2_hang_2_78 rfl rfl 2 rfl ?_
  refine v_gnI (pc' := 82) hc_X2_hang_2 ho_X2_hang_2 KX10 3 (Nat.le_of_ble_eq_true rfl) q1249 rfl dX2_hang_2_79 rfl e (fun v36 _ e => ?_)
  refine v_iload (pc' := 84) hc_X2_hang_2 dX2_hang_2_82 rfl 1 rfl ?_
  obtain ⟨r37, h38, e39, e⟩ := bd2_of e
  refine k_I (pc' := 87) (n := 4) hc_X2_hang_2 ho_X2_hang_2 (w_X12_init D l hl a35 x2 r30 v36 r18 h34 e39) (wA_l q1393) q1394 q111 q1395 rfl hy_84 ⟨Nat.le_of_ble_eq_true rfl, Nat.le_of_ble_eq_true rfl⟩ rfl rfl (Nat.le_of_ble_eq_true rfl) dX2_hang_2_84 rfl (kU ?_) kN
  obtain ⟨c40, e⟩ := gd_of e
  obtain ⟨r41, h42, e43, e⟩ := bd2_of e
  refine k_F (pc' := 92) (x := ⟨"java/util/List", "add", "(Ljava/lang/Object;)Z"⟩) (y := ⟨"java/util/ArrayList", "add", "(Ljava/lang/Object;)Z"⟩) (ci := 16) (n := 1) hc_X2_hang_2 ho_X2_hang_2 rfl c40 (w_J2_add D l hl v33 a35 h38 e43) (wA_l q904) (by decide +kernel) q907 q909 q79 q911 hy_28 ⟨Nat.le_of_ble_eq_true rfl, Nat.le_of_ble_eq_true rfl⟩ rfl rfl (Nat.le_of_ble_eq_true rfl) dX2_hang_2_87 rfl (kS ?_) kN
  refine v_pop (pc' := 93) hc_X2_hang_2 dX2_hang_2_92 rfl rfl ?_
  refine v_aload_n (pc' := 94) hc_X2_hang_2 dX2_hang_2_93 rfl rfl 4 rfl ?_
  refine v_dup (pc' := 95) hc_X2_hang_2 dX2_hang_2_94 rfl rfl ?_
  refine v_gnI (pc' := 98) hc_X2_hang_2 ho_X2_hang_2 KX5 3 (Nat.le_of_ble_eq_true rfl) q886 rfl dX2_hang_2_95 rfl e (fun v44 _ e => ?_)
  refine v_iload (pc' := 100) hc_X2_hang_2 dX2_hang_2_98 rfl 1 rfl ?_
  refine v_iadd (pc' := 101) hc_X2_hang_2 dX2_hang_2_100 rfl ?_
  refine v_pn (pc' := 104) hc_X2_hang_2 ho_X2_hang_2 KX5 3 (Nat.le_of_ble_eq_true rfl) q886 rfl rfl dX2_hang_2_101 rfl rfl rfl e (fun h45 _ e => ?_)
  refine v_aload_n (pc' := 105) hc_X2_hang_2 dX2_hang_2_104 rfl rfl 3 rfl ?_
  refine v_gfR (pc' := 108) hc_X2_hang_2 ho_X2_hang_2 KX2 2 (Nat.le_of_ble_eq_true rfl) q169 (Or.inl rfl) dX2_hang_2_105 rfl e (fun v46 _ e => ?_)
  refine v_iload_n (pc' := 109) hc_X2_hang_2 dX2_hang_2_108 rfl rfl 5 rfl ?_
  refine v_aload_n (pc' := 110) hc_X2_hang_2 dX2_hang_2_109 rfl rfl 2 rfl ?_
  refine v_iload (pc' := 112) hc_X2_hang_2 dX2_hang_2_110 rfl 1 rfl ?_
  refine v_aload_n (pc' := 113) hc_X2_hang_2 dX2_hang_2_112 rfl rfl 4 rfl ?_
  refine v_gnI (pc' := 116) hc_X2_hang_2 ho_X2_hang_2 KX5 0 (Nat.le_of_ble_eq_true rfl) q874 rfl dX2_hang_2_113 rfl e (fun v47 _ e => ?_)
  refine v_iadd (pc' := 117) hc_X2_hang_2 dX2_hang_2_116 rfl ?_
  obtain ⟨c48, e⟩ := gd_of e
  obtain ⟨r49, h50, e51, e⟩ := bd2_of e
  refine k_V (pc' := 120) (ci := 9) (n := 1) hc_X2_hang_2 ho_X2_hang_2 rfl c48 (w_X10_cut D l hl r3 (r18 + v47) h45 e51) (wA_l q1417) q1418 (wA_l q1419) q109 q1420 hy_85 ⟨Nat.le_of_ble_eq_true rfl, Nat.le_of_ble_eq_true rfl⟩ rfl rfl (Nat.le_of_ble_eq_true rfl) dX2_hang_2_117 rfl (kS ?_) kN
  obtain ⟨c52, e⟩ := gd_of e
  obtain ⟨r53, h54, e55, e⟩ := bd2_of e
  refine k_F (pc' := 125) (x := ⟨"java/util/List", "set", "(ILjava/lang/Object;)Ljava/lang/Object;"⟩) (y := ⟨"java/util/ArrayList", "set", "(ILjava/lang/Object;)Ljava/lang/Object;"⟩) (ci := 16) (n := 2) hc_X2_hang_2 ho_X2_hang_2 rfl c52 (w_J2_set D l hl v46 x2 r49 h50 e55) (wA_l q1175) (by decide +kernel) q1178 q1180 q79 q1182 hy_51 ⟨Nat.le_of_ble_eq_true rfl, Nat.le_of_ble_eq_true rfl⟩ rfl rfl (Nat.le_of_ble_eq_true rfl) dX2_hang_2_120 rfl (kS ?_) kN
  obtain ⟨c56, e⟩ := gd_of e
  refine v_cast (pc' := 128) (ci := 9) hc_X2_hang_2 ho_X2_hang_2 rfl q516 (Or.inl rfl) dX2_hang_2_125 rfl c56 ?_
  refine v_astore (pc' := 130) (lv' := [(6, .ref r53), (5, .int r30), (4, .int r18), (3, .ref r3), (0, .ref x0), (1, .ref x1), (2, .int x2)]) hc_X2_hang_2 dX2_hang_2_128 rfl (Nat.le_of_ble_eq_true rfl) rfl ?_
  refine v_iload (pc' := 132) hc_X2_hang_2 dX2_hang_2_130 rfl 2 rfl ?_
  obtain ⟨rfl, rfl⟩ := ret_of e
  exact v_iret hc_X2_hang_2 rfl dX2_hang_2_132 rfl rfl
theorem w_X2_hang_2 (D : va_G) (l : Launch) (hl : l.stackTraces = false) (x0 : Nat) (x1 : Nat) (x2 : Int32) (h : AH) {r : Int32} {hF : AH} (e : f_X2_hang_2 x0 x1 x2 h = some (r, hF)) : MetV D l yX2_hang_2 (Cond.code yX2_hang_2 cX2_hang_2 7 (Option.some .int)) 8 200 [.ref x0, .ref x1, .int x2] h hF (oI r) :=
  met_ofF (by decide +kernel) hl (Nat.le_of_ble_eq_true rfl) rfl (v_X2_hang_2 D l hl [.ref x0, .ref x1, .int x2] h x0 x1 x2 h e)
/-! BlockPapers$Workshop.hang(II)I  -/
abbrev G_X2_hang (D : va_G) (l : Launch) (as : List Value) (h0 hF : AH) (o : Out) : CT := (D, l, (yX2_hang.cls, yX2_hang, cX2_hang, 6, (Option.some .int), 9, 226, []), as, h0, hF, o)
theorem hc_X2_hang {D : va_G} {l : Launch} {as : List Value} {h0 hF : AH} {o : Out} : gC (G_X2_hang D l as h0 hF o) = cX2_hang := rfl
theorem ho_X2_hang {D : va_G} {l : Launch} {as : List Value} {h0 hF : AH} {o : Out} : gO (G_X2_hang D l as h0 hF o) = "BlockPapers$Workshop" := rfl
theorem hp_X2_hang {D : va_G} {l : Launch} {as : List Value} {h0 hF : AH} {o : Out} (pc : Nat) : ∀ z ∈ tableOf (gHd (G_X2_hang D l as h0 hF o)), covers z pc = false := hpN
def f_X2_hang_j32 (x0 : Nat) (x2 : Int32) (x3 : Nat) (x5 : Int32) (s0 : Int32) (h : AH) : Option ((Int32 ⊕ Nat) × AH) :=
  gd (isC h 1 x0) <|
  bd2 (f_X2_detail x0 x3 x2 x5 h) fun r2 h3 =>
  bdX (f_X1_allow s0 x5 r2 h3) (fun zq12 h6 =>
    outX h6 zq12
  ) fun r5 h6 =>
  gd (isC h6 1 x0) <|
  bd2 (f_X2_hang_2 x0 x3 x2 h6) fun r9 h10 =>
  some (.inl r9, h10)
theorem w_X2_hang_j32 (D : va_G) (l : Launch) (hl : l.stackTraces = false) (as : List Value) (h0 : AH) {r : (Int32 ⊕ Nat)} {hF : AH} (x0 : Nat) (x2 : Int32) (x3 : Nat) (x5 : Int32) (s0 : Int32) (h : AH) (e : f_X2_hang_j32 x0 x2 x3 x5 s0 h = some (r, hF)) : V (G_X2_hang D l as h0 hF ((oX oI) r)) h 32 [(0, .ref x0), (2, .int x2), (3, .ref x3), (5, .int x5)] [.int s0] := by
  unfold f_X2_hang_j32 at e
  refine v_iload (pc' := 34) hc_X2_hang dX2_hang_32 rfl 3 rfl ?_
  refine v_aload_n (pc' := 35) hc_X2_hang dX2_hang_34 rfl rfl 0 rfl ?_
  refine v_aload_n (pc' := 36) hc_X2_hang dX2_hang_35 rfl rfl 2 rfl ?_
  refine v_iload_n (pc' := 37) hc_X2_hang dX2_hang_36 rfl rfl 1 rfl ?_
  refine v_iload (pc' := 39) hc_X2_hang dX2_hang_37 rfl 3 rfl ?_
  obtain ⟨c1, e⟩ := gd_of e
  obtain ⟨r2, h3, e4, e⟩ := bd2_of e
  refine k_V (pc' := 42) (ci := 1) (n := 3) hc_X2_hang ho_X2_hang rfl c1 (w_X2_detail D l hl x0 x3 x2 x5 h e4) (wA_l q1384) q1385 (wA_l q1386) q76 q1387 hy_83 ⟨Nat.le_of_ble_eq_true rfl, Nat.le_of_ble_eq_true rfl⟩ rfl rfl (Nat.le_of_ble_eq_true rfl) dX2_hang_39 rfl (kS ?_) kN
  rcases bdX_of e with ⟨r5, h6, e7, e⟩ | ⟨zq12, h6, e7, e⟩
  · refine k_SN (pc' := 45) (x := ⟨"BlockPapers", "allow", "(ZII)V"⟩) (n := 3) hc_X2_hang ho_X2_hang (w_X1_allow D l hl s0 x5 r2 h3 e7) q1090 q1091 q75 q1092 hy_44 ⟨Nat.le_of_ble_eq_true rfl, Nat.le_of_ble_eq_true rfl⟩ rfl rfl (Nat.le_of_ble_eq_true rfl) dX2_hang_42 rfl (kU ?_) kN
    refine v_aload_n (pc' := 46) hc_X2_hang dX2_hang_45 rfl rfl 0 rfl ?_
    refine v_aload_n (pc' := 47) hc_X2_hang dX2_hang_46 rfl rfl 2 rfl ?_
    refine v_iload_n (pc' := 48) hc_X2_hang dX2_hang_47 rfl rfl 1 rfl ?_
    obtain ⟨c8, e⟩ := gd_of e
    obtain ⟨r9, h10, e11, e⟩ := bd2_of e
    refine k_V (pc' := 51) (ci := 1) (n := 2) hc_X2_hang ho_X2_hang rfl c8 (w_X2_hang_2 D l hl x0 x3 x2 h6 e11) (wA_l q1388) q1390 (wA_l qs12) q76 q1391 hy_86 ⟨Nat.le_of_ble_eq_true rfl, Nat.le_of_ble_eq_true rfl⟩ rfl rfl (Nat.le_of_ble_eq_true rfl) dX2_hang_48 rfl (kS ?_) kN
    obtain ⟨rfl, rfl⟩ := ret_of e
    exact v_iret hc_X2_hang rfl dX2_hang_51 rfl rfl
  · refine k_SN (pc' := 45) (x := ⟨"BlockPapers", "allow", "(ZII)V"⟩) (n := 3) hc_X2_hang ho_X2_hang (w_X1_allow D l hl s0 x5 r2 h3 e7) q1090 q1091 q75 q1092 hy_44 ⟨Nat.le_of_ble_eq_true rfl, Nat.le_of_ble_eq_true rfl⟩ rfl rfl (Nat.le_of_ble_eq_true rfl) dX2_hang_42 rfl kM (kX ?_)
    exact v_outA (hp_X2_hang _) rfl rfl e
def f_X2_hang (x0 : Nat) (x1 : Int32) (x2 : Int32) (h : AH) : Option ((Int32 ⊕ Nat) × AH) :=
  gd (isC h 1 x0) <|
  bdX (f_X2_room x0 x1 h) (fun zq14 h3 =>
    outX h3 zq14
  ) fun r2 h3 =>
  gd (isC h3 1 x0) <|
  bdX (f_X2_roll x0 x2 h3) (fun zq13 h7 =>
    outX h7 zq13
  ) fun r6 h7 =>
  gd (isC h7 1 x0) <|
  bd2 (f_X2_reason x0 r2 r6 h7) fun r10 h11 =>
  if r10 = 0 then (
    f_X2_hang_j32 x0 x2 r2 r10 (1 : Int32) h11
  ) else (
    f_X2_hang_j32 x0 x2 r2 r10 (0 : Int32) h11
  )
theorem v_X2_hang (D : va_G) (l : Launch) (hl : l.stackTraces = false) (as : List Value) (h0 : AH) {r : (Int32 ⊕ Nat)} {hF : AH} (x0 : Nat) (x1 : Int32) (x2 : Int32) (h : AH) (e : f_X2_hang x0 x1 x2 h = some (r, hF)) : V (G_X2_hang D l as h0 hF ((oX oI) r)) h 0 [(0, .ref x0), (1, .int x1), (2, .int x2)] [] := by
  unfold f_X2_hang at e
  refine v_aload_n (pc' := 1) hc_X2_hang dX2_hang_0 rfl rfl 0 rfl ?_
  refine v_iload_n (pc' := 2) hc_X2_hang dX2_hang_1 rfl rfl 1 rfl ?_
  obtain ⟨c1, e⟩ := gd_of e
  rcases bdX_of e with ⟨r2, h3, e4, e⟩ | ⟨zq14, h3, e4, e⟩
  · refine k_V (pc' := 5) (ci := 1) (n := 1) hc_X2_hang ho_X2_hang rfl c1 (w_X2_room D l hl x0 x1 h e4) (wA_l q1310) q1311 (wA_l q1312) q76 q1313 hy_69 ⟨Nat.le_of_ble_eq_true rfl, Nat.le_of_ble_eq_true rfl⟩ rfl rfl (Nat.le_of_ble_eq_true rfl) dX2_hang_2 rfl (kS ?_) kN
    refine v_astore_n (pc' := 6) (lv' := [(3, .ref r2), (0, .ref x0), (1, .int x1), (2, .int x2)]) hc_X2_hang dX2_hang_5 rfl rfl (Nat.le_of_ble_eq_true rfl) rfl ?_
    refine v_aload_n (pc' := 7) hc_X2_hang dX2_hang_6 rfl rfl 1 rfl ?_
    refine v_iload_n (pc' := 8) hc_X2_hang dX2_hang_7 rfl rfl 3 rfl ?_
    obtain ⟨c5, e⟩ := gd_of e
    rcases bdX_of e with ⟨r6, h7, e8, e⟩ | ⟨zq13, h7, e8, e⟩
    · refine k_V (pc' := 11) (ci := 1) (n := 1) hc_X2_hang ho_X2_hang rfl c5 (w_X2_roll D l hl x0 x2 h3 e8) (wA_l q1285) q1286 (wA_l q1287) q76 q1288 hy_63 ⟨Nat.le_of_ble_eq_true rfl, Nat.le_of_ble_eq_true rfl⟩ rfl rfl (Nat.le_of_ble_eq_true rfl) dX2_hang_8 rfl (kS ?_) kN
      refine v_astore (pc' := 13) (lv' := [(4, .ref r6), (3, .ref r2), (0, .ref x0), (1, .int x1), (2, .int x2)]) hc_X2_hang dX2_hang_11 rfl (Nat.le_of_ble_eq_true rfl) rfl ?_
      refine v_aload_n (pc' := 14) hc_X2_hang dX2_hang_13 rfl rfl 2 rfl ?_
      refine v_aload_n (pc' := 15) hc_X2_hang dX2_hang_14 rfl rfl 1 rfl ?_
      refine v_aload (pc' := 17) hc_X2_hang dX2_hang_15 rfl 0 rfl ?_
      obtain ⟨c9, e⟩ := gd_of e
      obtain ⟨r10, h11, e12, e⟩ := bd2_of e
      refine k_V (pc' := 20) (ci := 1) (n := 2) hc_X2_hang ho_X2_hang rfl c9 (w_X2_reason D l hl x0 r2 r6 h7 e12) (wA_l q1314) q1315 (wA_l q1316) q76 q1317 hy_82 ⟨Nat.le_of_ble_eq_true rfl, Nat.le_of_ble_eq_true rfl⟩ rfl rfl (Nat.le_of_ble_eq_true rfl) dX2_hang_17 rfl (kS ?_) kN
      refine v_istore (pc' := 22) (lv' := [(5, .int r10), (4, .ref r6), (3, .ref r2), (0, .ref x0), (1, .int x1), (2, .int x2)]) hc_X2_hang dX2_hang_20 rfl (Nat.le_of_ble_eq_true rfl) rfl ?_
      refine v_iload (pc' := 24) hc_X2_hang dX2_hang_22 rfl 0 rfl ?_
      refine v_if_ne (pt := 31) (pf := 27) hc_X2_hang dX2_hang_24 rfl rfl e (fun _ e => ?_) (fun _ e => ?_)
      · refine v_iconst (pc' := 28) (v := 1) hc_X2_hang dX2_hang_27 rfl rfl ?_
        refine v_goto (pt := 32) hc_X2_hang dX2_hang_28 rfl ?_
        refine v_pick [3, 5, 2, 0] rfl ?_
        exact w_X2_hang_j32 D l hl as h0 x0 x2 r2 r10 (1 : Int32) h11 e
      · refine v_iconst (pc' := 32) (v := 0) hc_X2_hang dX2_hang_31 rfl rfl ?_
        refine v_pick [3, 5, 2, 0] rfl ?_
        exact w_X2_hang_j32 D l hl as h0 x0 x2 r2 r10 (0 : Int32) h11 e
    · refine k_V (pc' := 11) (ci := 1) (n := 1) hc_X2_hang ho_X2_hang rfl c5 (w_X2_roll D l hl x0 x2 h3 e8) (wA_l q1285) q1286 (wA_l q1287) q76 q1288 hy_63 ⟨Nat.le_of_ble_eq_true rfl, Nat.le_of_ble_eq_true rfl⟩ rfl rfl (Nat.le_of_ble_eq_true rfl) dX2_hang_8 rfl kM (kX ?_)
      exact v_outA (hp_X2_hang _) rfl rfl e
  · refine k_V (pc' := 5) (ci := 1) (n := 1) hc_X2_hang ho_X2_hang rfl c1 (w_X2_room D l hl x0 x1 h e4) (wA_l q1310) q1311 (wA_l q1312) q76 q1313 hy_69 ⟨Nat.le_of_ble_eq_true rfl, Nat.le_of_ble_eq_true rfl⟩ rfl rfl (Nat.le_of_ble_eq_true rfl) dX2_hang_2 rfl kM (kX ?_)
    exact v_outA (hp_X2_hang _) rfl rfl e
theorem w_X2_hang (D : va_G) (l : Launch) (hl : l.stackTraces = false) (x0 : Nat) (x1 : Int32) (x2 : Int32) (h : AH) {r : (Int32 ⊕ Nat)} {hF : AH} (e : f_X2_hang x0 x1 x2 h = some (r, hF)) : MetV D l yX2_hang (Cond.code yX2_hang cX2_hang 6 (Option.some .int)) 9 226 [.ref x0, .int x1, .int x2] h hF ((oX oI) r) :=
  met_ofF (by decide +kernel) hl (Nat.le_of_ble_eq_true rfl) rfl (v_X2_hang D l hl [.ref x0, .int x1, .int x2] h x0 x1 x2 h e)
/-! BlockPapers$Workshop.strip(I)I  -/
abbrev G_X2_strip (D : va_G) (l : Launch) (as : List Value) (h0 hF : AH) (o : Out) : CT := (D, l, (yX2_strip.cls, yX2_strip, cX2_strip, 4, (Option.some .int), 8, 140, []), as, h0, hF, o)
theorem hc_X2_strip {D : va_G} {l : Launch} {as : List Value} {h0 hF : AH} {o : Out} : gC (G_X2_strip D l as h0 hF o) = cX2_strip := rfl
theorem ho_X2_strip {D : va_G} {l : Launch} {as : List Value} {h0 hF : AH} {o : Out} : gO (G_X2_strip D l as h0 hF o) = "BlockPapers$Workshop" := rfl
theorem hp_X2_strip {D : va_G} {l : Launch} {as : List Value} {h0 hF : AH} {o : Out} (pc : Nat) : ∀ z ∈ tableOf (gHd (G_X2_strip D l as h0 hF o)), covers z pc = false := hpN
def f_X2_strip_j23 (x2 : Nat) (s0 : Int32) (h : AH) : Option ((Int32 ⊕ Nat) × AH) :=
  bdX (f_X1_allow s0 (10 : Int32) (0 : Int32) h) (fun zq18 h2 =>
    outX h2 zq18
  ) fun r1 h2 =>
  bd (gtR h2 4 x2 2) fun v4 =>
  bd (gtR h2 4 x2 2) fun v5 =>
  gd (isC h2 16 v5) <|
  bd2 (f_J2_size v5 h2) fun r7 h8 =>
  gd (isC h8 16 v4) <|
  bd2 (f_J2_remove v4 (r7 - (1 : Int32)) h8) fun r11 h12 =>
  gd (isC h12 10 r11) <|
  bd (gtI h12 4 x2 4) fun v15 =>
  bd (stF h12 4 x2 4 (.int (v15 + (1 : Int32)))) fun h16 =>
  bd (gtI h16 10 r11 0) fun v17 =>
  some (.inl v17, h16)
theorem w_X2_strip_j23 (D : va_G) (l : Launch) (hl : l.stackTraces = false) (as : List Value) (h0 : AH) {r : (Int32 ⊕ Nat)} {hF : AH} (x2 : Nat) (s0 : Int32) (h : AH) (e : f_X2_strip_j23 x2 s0 h = some (r, hF)) : V (G_X2_strip D l as h0 hF ((oX oI) r)) h 23 [(2, .ref x2)] [.int s0] := by
  unfold f_X2_strip_j23 at e
  refine v_bipush (pc' := 25) (v := 10) hc_X2_strip dX2_strip_23 rfl rfl ?_
  refine v_iconst (pc' := 26) (v := 0) hc_X2_strip dX2_strip_25 rfl rfl ?_
  rcases bdX_of e with ⟨r1, h2, e3, e⟩ | ⟨zq18, h2, e3, e⟩
  · refine k_SN (pc' := 29) (x := ⟨"BlockPapers", "allow", "(ZII)V"⟩) (n := 3) hc_X2_strip ho_X2_strip (w_X1_allow D l hl s0 (10 : Int32) (0 : Int32) h e3) q1090 q1091 q75 q1092 hy_44 ⟨Nat.le_of_ble_eq_true rfl, Nat.le_of_ble_eq_true rfl⟩ rfl rfl (Nat.le_of_ble_eq_true rfl) dX2_strip_26 rfl (kU ?_) kN
    refine v_aload_n (pc' := 30) hc_X2_strip dX2_strip_29 rfl rfl 0 rfl ?_
    refine v_gnR (pc' := 33) hc_X2_strip ho_X2_strip KX5 2 (Nat.le_of_ble_eq_true rfl) q882 rfl dX2_strip_30 rfl e (fun v4 _ e => ?_)
    refine v_aload_n (pc' := 34) hc_X2_strip dX2_strip_33 rfl rfl 0 rfl ?_
    refine v_gnR (pc' := 37) hc_X2_strip ho_X2_strip KX5 2 (Nat.le_of_ble_eq_true rfl) q882 rfl dX2_strip_34 rfl e (fun v5 _ e => ?_)
    obtain ⟨c6, e⟩ := gd_of e
    obtain ⟨r7, h8, e9, e⟩ := bd2_of e
    refine k_F (pc' := 42) (x := ⟨"java/util/List", "size", "()I"⟩) (y := ⟨"java/util/ArrayList", "size", "()I"⟩) (ci := 16) (n := 0) hc_X2_strip ho_X2_strip rfl c6 (w_J2_size D l hl v5 h2 e9) (wA_l q513) (by decide +kernel) q348 q350 q79 q352 hy_19 ⟨Nat.le_of_ble_eq_true rfl, Nat.le_of_ble_eq_true rfl⟩ rfl rfl (Nat.le_of_ble_eq_true rfl) dX2_strip_37 rfl (kS ?_) kN
    refine v_iconst (pc' := 43) (v := 1) hc_X2_strip dX2_strip_42 rfl rfl ?_
    refine v_isub (pc' := 44) hc_X2_strip dX2_strip_43 rfl ?_
    obtain ⟨c10, e⟩ := gd_of e
    obtain ⟨r11, h12, e13, e⟩ := bd2_of e
    refine k_F (pc' := 49) (x := ⟨"java/util/List", "remove", "(I)Ljava/lang/Object;"⟩) (y := ⟨"java/util/ArrayList", "remove", "(I)Ljava/lang/Object;"⟩) (ci := 16) (n := 1) hc_X2_strip ho_X2_strip rfl c10 (w_J2_remove D l hl v4 (r7 - (1 : Int32)) h8 e13) (wA_l q1426) (by decide +kernel) q1429 q1431 q79 q1433 hy_89 ⟨Nat.le_of_ble_eq_true rfl, Nat.le_of_ble_eq_true rfl⟩ rfl rfl (Nat.le_of_ble_eq_true rfl) dX2_strip_44 rfl (kS ?_) kN
    obtain ⟨c14, e⟩ := gd_of e
    refine v_cast (pc' := 52) (ci := 10) hc_X2_strip ho_X2_strip rfl q507 (Or.inl rfl) dX2_strip_49 rfl c14 ?_
    refine v_astore_n (pc' := 53) (lv' := [(3, .ref r11), (2, .ref x2)]) hc_X2_strip dX2_strip_52 rfl rfl (Nat.le_of_ble_eq_true rfl) rfl ?_
    refine v_aload_n (pc' := 54) hc_X2_strip dX2_strip_53 rfl rfl 1 rfl ?_
    refine v_dup (pc' := 55) hc_X2_strip dX2_strip_54 rfl rfl ?_
    refine v_gnI (pc' := 58) hc_X2_strip ho_X2_strip KX5 4 (Nat.le_of_ble_eq_true rfl) q889 rfl dX2_strip_55 rfl e (fun v15 _ e => ?_)
    refine v_iconst (pc' := 59) (v := 1) hc_X2_strip dX2_strip_58 rfl rfl ?_
    refine v_iadd (pc' := 60) hc_X2_strip dX2_strip_59 rfl ?_
    refine v_pn (pc' := 63) hc_X2_strip ho_X2_strip KX5 4 (Nat.le_of_ble_eq_true rfl) q889 rfl rfl dX2_strip_60 rfl rfl rfl e (fun h16 _ e => ?_)
    refine v_aload_n (pc' := 64) hc_X2_strip dX2_strip_63 rfl rfl 0 rfl ?_
    refine v_gnI (pc' := 67) hc_X2_strip ho_X2_strip KX12 0 (Nat.le_of_ble_eq_true rfl) q1398 rfl dX2_strip_64 rfl e (fun v17 _ e => ?_)
    obtain ⟨rfl, rfl⟩ := ret_of e
    exact v_iret hc_X2_strip rfl dX2_strip_67 rfl rfl
  · refine k_SN (pc' := 29) (x := ⟨"BlockPapers", "allow", "(ZII)V"⟩) (n := 3) hc_X2_strip ho_X2_strip (w_X1_allow D l hl s0 (10 : Int32) (0 : Int32) h e3) q1090 q1091 q75 q1092 hy_44 ⟨Nat.le_of_ble_eq_true rfl, Nat.le_of_ble_eq_true rfl⟩ rfl rfl (Nat.le_of_ble_eq_true rfl) dX2_strip_26 rfl kM (kX ?_)
    exact v_outA (hp_X2_strip _) rfl rfl e
def f_X2_strip (x0 : Nat) (x1 : Int32) (h : AH) : Option ((Int32 ⊕ Nat) × AH) :=
  gd (isC h 1 x0) <|
  bdX (f_X2_room x0 x1 h) (fun zq10 h3 =>
    outX h3 zq10
  ) fun r2 h3 =>
  bd (gtR h3 4 r2 2) fun v5 =>
  gd (isC h3 16 v5) <|
  bd2 (f_J2_isEmpty v5 h3) fun r7 h8 =>
  if r7 = 0 then (
    f_X2_strip_j23 r2 (1 : Int32) h8
  ) else (
    f_X2_strip_j23 r2 (0 : Int32) h8
  )
theorem v_X2_strip (D : va_G) (l : Launch) (hl : l.stackTraces = false) (as : List Value) (h0 : AH) {r : (Int32 ⊕ Nat)} {hF : AH} (x0 : Nat) (x1 : Int32) (h : AH) (e : f_X2_strip x0 x1 h = some (r, hF)) : V (G_X2_strip D l as h0 hF ((oX oI) r)) h 0 [(0, .ref x0), (1, .int x1)] [] := by
  unfold f_X2_strip at e
  refine v_aload_n (pc' := 1) hc_X2_strip dX2_strip_0 rfl rfl 0 rfl ?_
  refine v_iload_n (pc' := 2) hc_X2_strip dX2_strip_1 rfl rfl 1 rfl ?_
  obtain ⟨c1, e⟩ := gd_of e
  rcases bdX_of e with ⟨r2, h3, e4, e⟩ | ⟨zq10, h3, e4, e⟩
  · refine k_V (pc' := 5) (ci := 1) (n := 1) hc_X2_strip ho_X2_strip rfl c1 (w_X2_room D l hl x0 x1 h e4) (wA_l q1310) q1311 (wA_l q1312) q76 q1313 hy_69 ⟨Nat.le_of_ble_eq_true rfl, Nat.le_of_ble_eq_true rfl⟩ rfl rfl (Nat.le_of_ble_eq_true rfl) dX2_strip_2 rfl (kS ?_) kN
    refine v_astore_n (pc' := 6) (lv' := [(2, .ref r2), (0, .ref x0), (1, .int x1)]) hc_X2_strip dX2_strip_5 rfl rfl (Nat.le_of_ble_eq_true rfl) rfl ?_
    refine v_aload_n (pc' := 7) hc_X2_strip dX2_strip_6 rfl rfl 0 rfl ?_
    refine v_gnR (pc' := 10) hc_X2_strip ho_X2_strip KX5 2 (Nat.le_of_ble_eq_true rfl) q882 rfl dX2_strip_7 rfl e (fun v5 _ e => ?_)
    obtain ⟨c6, e⟩ := gd_of e
    obtain ⟨r7, h8, e9, e⟩ := bd2_of e
    refine k_F (pc' := 15) (x := ⟨"java/util/List", "isEmpty", "()Z"⟩) (y := ⟨"java/util/ArrayList", "isEmpty", "()Z"⟩) (ci := 16) (n := 0) hc_X2_strip ho_X2_strip rfl c6 (w_J2_isEmpty D l hl v5 h3 e9) (wA_l q1323) (by decide +kernel) q1326 q1328 q79 q1330 hy_70 ⟨Nat.le_of_ble_eq_true rfl, Nat.le_of_ble_eq_true rfl⟩ rfl rfl (Nat.le_of_ble_eq_true rfl) dX2_strip_10 rfl (kS ?_) kN
    refine v_if_ne (pt := 22) (pf := 18) hc_X2_strip dX2_strip_15 rfl rfl e (fun _ e => ?_) (fun _ e => ?_)
    · refine v_iconst (pc' := 19) (v := 1) hc_X2_strip dX2_strip_18 rfl rfl ?_
      refine v_goto (pt := 23) hc_X2_strip dX2_strip_19 rfl ?_
      refine v_pick [0] rfl ?_
      exact w_X2_strip_j23 D l hl as h0 r2 (1 : Int32) h8 e
    · refine v_iconst (pc' := 23) (v := 0) hc_X2_strip dX2_strip_22 rfl rfl ?_
      refine v_pick [0] rfl ?_
      exact w_X2_strip_j23 D l hl as h0 r2 (0 : Int32) h8 e
  · refine k_V (pc' := 5) (ci := 1) (n := 1) hc_X2_strip ho_X2_strip rfl c1 (w_X2_room D l hl x0 x1 h e4) (wA_l q1310) q1311 (wA_l q1312) q76 q1313 hy_69 ⟨Nat.le_of_ble_eq_true rfl, Nat.le_of_ble_eq_true rfl⟩ rfl rfl (Nat.le_of_ble_eq_true rfl) dX2_strip_2 rfl kM (kX ?_)
    exact v_outA (hp_X2_strip _) rfl rfl e
theorem w_X2_strip (D : va_G) (l : Launch) (hl : l.stackTraces = false) (x0 : Nat) (x1 : Int32) (h : AH) {r : (Int32 ⊕ Nat)} {hF : AH} (e : f_X2_strip x0 x1 h = some (r, hF)) : MetV D l yX2_strip (Cond.code yX2_strip cX2_strip 4 (Option.some .int)) 8 140 [.ref x0, .int x1] h hF ((oX oI) r) :=
  met_ofF (by decide +kernel) hl (Nat.le_of_ble_eq_true rfl) rfl (v_X2_strip D l hl [.ref x0, .int x1] h x0 x1 h e)
/-! BlockPapers$Workshop$1Offer.<init>(LBlockPapers$Workshop;ILBlockPapers$Room;)V  -/
abbrev G_X13_init (D : va_G) (l : Launch) (as : List Value) (h0 hF : AH) (o : Out) : CT := (D, l, (yX13_init.cls, yX13_init, cX13_init, 5, (Option.none : Option FieldType), 6, 155, []), as, h0, hF, o)
theorem hc_X13_init {D : va_G} {l : Launch} {as : List Value} {h0 hF : AH} {o : Out} : gC (G_X13_init D l as h0 hF o) = cX13_init := rfl
theorem ho_X13_init {D : va_G} {l : Launch} {as : List Value} {h0 hF : AH} {o : Out} : gO (G_X13_init D l as h0 hF o) = "BlockPapers$Workshop$1Offer" := rfl
theorem hp_X13_init {D : va_G} {l : Launch} {as : List Value} {h0 hF : AH} {o : Out} (pc : Nat) : ∀ z ∈ tableOf (gHd (G_X13_init D l as h0 hF o)), covers z pc = false := hpN
def f_X13_init (x0 : Nat) (x1 : Nat) (x2 : Int32) (x3 : Nat) (h : AH) : Option (Unit × AH) :=
  bd (stF h 11 x0 4 (.ref x1)) fun h1 =>
  bd (stF h1 11 x0 3 (.ref x3)) fun h2 =>
  bd (gtR h2 1 x1 2) fun v3 =>
  gd (isC h2 16 v3) <|
  bd2 (f_J2_get v3 x2 h2) fun r5 h6 =>
  gd (isC h6 9 r5) <|
  bd (stF h6 11 x0 0 (.int x2)) fun h9 =>
  bd (gtI h9 9 r5 5) fun v10 =>
  bd (gtR h9 11 x0 3) fun v11 =>
  bd (gtR h9 11 x0 3) fun v12 =>
  bd (gtR h9 4 v12 2) fun v13 =>
  gd (isC h9 16 v13) <|
  bd2 (f_J2_size v13 h9) fun r15 h16 =>
  gd (isC h16 1 x1) <|
  bd2 (f_X2_begin x1 v11 r15 h16) fun r19 h20 =>
  gd (isC h20 1 x1) <|
  bd2 (f_X2_waste x1 r5 v10 r19 h20) fun r23 h24 =>
  bd (stF h24 11 x0 1 (.int r23)) fun h26 =>
  gd (isC h26 9 r5) <|
  bd2 (f_X10_left r5 h26) fun r28 h29 =>
  bd (stF h29 11 x0 2 (.int r28)) fun h31 =>
  some ((), h31)
theorem v_X13_init (D : va_G) (l : Launch) (hl : l.stackTraces = false) (as : List Value) (h0 : AH) {r : Unit} {hF : AH} (x0 : Nat) (x1 : Nat) (x2 : Int32) (x3 : Nat) (h : AH) (e : f_X13_init x0 x1 x2 x3 h = some (r, hF)) : V (G_X13_init D l as h0 hF (oV r)) h 0 [(0, .ref x0), (1, .ref x1), (2, .int x2), (3, .ref x3)] [] := by
  unfold f_X13_init at e
  refine v_aload_n (pc' := 1) hc_X13_init dX13_init_0 rfl rfl 0 rfl ?_
  refine v_aload_n (pc' := 2) hc_X13_init dX13_init_1 rfl rfl 1 rfl ?_
  refine v_pfF (pc' := 5) hc_X13_init ho_X13_init rfl KX13 4 (Nat.le_of_ble_eq_true rfl) q1465 rfl rfl rfl dX13_init_2 rfl rfl rfl e (fun h1 _ e => ?_)
  refine v_aload_n (pc' := 6) hc_X13_init dX13_init_5 rfl rfl 0 rfl ?_
  refine v_aload_n (pc' := 7) hc_X13_init dX13_init_6 rfl rfl 3 rfl ?_
  refine v_pfF (pc' := 10) hc_X13_init ho_X13_init rfl KX13 3 (Nat.le_of_ble_eq_true rfl) q1464 rfl rfl rfl dX13_init_7 rfl rfl rfl e (fun h2 _ e => ?_)
  refine v_aload_n (pc' := 11) hc_X13_init dX13_init_10 rfl rfl 0 rfl ?_
  refine v_oinit (pc' := 14) hc_X13_init ho_X13_init q1451 q127 q128 ⟨Nat.le_of_ble_eq_true rfl, Nat.le_of_ble_eq_true rfl⟩ dX13_init_11 rfl ?_
  refine v_aload_n (pc' := 15) hc_X13_init dX13_init_14 rfl rfl 1 rfl ?_
  refine v_gnR (pc' := 18) hc_X13_init ho_X13_init KX2 2 (Nat.le_of_ble_eq_true rfl) q168 rfl dX13_init_15 rfl e (fun v3 _ e => ?_)
  refine v_iload_n (pc' := 19) hc_X13_init dX13_init_18 rfl rfl 2 rfl ?_
  obtain ⟨c4, e⟩ := gd_of e
  obtain ⟨r5, h6, e7, e⟩ := bd2_of e
  refine k_F (pc' := 24) (x := ⟨"java/util/List", "get", "(I)Ljava/lang/Object;"⟩) (y := ⟨"java/util/ArrayList", "get", "(I)Ljava/lang/Object;"⟩) (ci := 16) (n := 1) hc_X13_init ho_X13_init rfl c4 (w_J2_get D l hl v3 x2 h2 e7) (wA_l q1453) (by decide +kernel) q401 q403 q79 q405 hy_23 ⟨Nat.le_of_ble_eq_true rfl, Nat.le_of_ble_eq_true rfl⟩ rfl rfl (Nat.le_of_ble_eq_true rfl) dX13_init_19 rfl (kS ?_) kN
  obtain ⟨c8, e⟩ := gd_of e
  refine v_cast (pc' := 27) (ci := 9) hc_X13_init ho_X13_init rfl q1454 (Or.inl rfl) dX13_init_24 rfl c8 ?_
  refine v_astore (pc' := 29) (lv' := [(4, .ref r5), (0, .ref x0), (1, .ref x1), (2, .int x2), (3, .ref x3)]) hc_X13_init dX13_init_27 rfl (Nat.le_of_ble_eq_true rfl) rfl ?_
  refine v_aload_n (pc' := 30) hc_X13_init dX13_init_29 rfl rfl 1 rfl ?_
  refine v_iload_n (pc' := 31) hc_X13_init dX13_init_30 rfl rfl 3 rfl ?_
  refine v_pfF (pc' := 34) hc_X13_init ho_X13_init rfl KX13 0 (Nat.le_of_ble_eq_true rfl) q1460 rfl rfl rfl dX13_init_31 rfl rfl rfl e (fun h9 _ e => ?_)
  refine v_aload_n (pc' := 35) hc_X13_init dX13_init_34 rfl rfl 1 rfl ?_
  refine v_aload_n (pc' := 36) hc_X13_init dX13_init_35 rfl rfl 2 rfl ?_
  refine v_aload (pc' := 38) hc_X13_init dX13_init_36 rfl 0 rfl ?_
  refine v_aload (pc' := 40) hc_X13_init dX13_init_38 rfl 0 rfl ?_
  refine v_gnI (pc' := 43) hc_X13_init ho_X13_init KX10 5 (Nat.le_of_ble_eq_true rfl) q1254 rfl dX13_init_40 rfl e (fun v10 _ e => ?_)
  refine v_aload_n (pc' := 44) hc_X13_init dX13_init_43 rfl rfl 2 rfl ?_
  refine v_aload_n (pc' := 45) hc_X13_init dX13_init_44 rfl rfl 1 rfl ?_
  refine v_gfR (pc' := 48) hc_X13_init ho_X13_init KX13 3 (Nat.le_of_ble_eq_true rfl) q1464 (Or.inl rfl) dX13_init_45 rfl e (fun v11 _ e => ?_)
  refine v_aload_n (pc' := 49) hc_X13_init dX13_init_48 rfl rfl 1 rfl ?_
  refine v_gfR (pc' := 52) hc_X13_init ho_X13_init KX13 3 (Nat.le_of_ble_eq_true rfl) q1464 (Or.inl rfl) dX13_init_49 rfl e (fun v12 _ e => ?_)
  refine v_gnR (pc' := 55) hc_X13_init ho_X13_init KX5 2 (Nat.le_of_ble_eq_true rfl) q880 rfl dX13_init_52 rfl e (fun v13 _ e => ?_)
  obtain ⟨c14, e⟩ := gd_of e
  obtain ⟨r15, h16, e17, e⟩ := bd2_of e
  refine k_F (pc' := 60) (x := ⟨"java/util/List", "size", "()I"⟩) (y := ⟨"java/util/ArrayList", "size", "()I"⟩) (ci := 16) (n := 0) hc_X13_init ho_X13_init rfl c14 (w_J2_size D l hl v13 h9 e17) (wA_l q1456) (by decide +kernel) q348 q350 q79 q352 hy_19 ⟨Nat.le_of_ble_eq_true rfl, Nat.le_of_ble_eq_true rfl⟩ rfl rfl (Nat.le_of_ble_eq_true rfl) dX13_init_55 rfl (kS ?_) kN
  obtain ⟨c18, e⟩ := gd_of e
  obtain ⟨r19, h20, e21, e⟩ := bd2_of e
  refine k_V (pc' := 63) (ci := 1) (n := 2) hc_X13_init ho_X13_init rfl c18 (w_X2_begin D l hl x1 v11 r15 h16 e21) (wA_l q1457) q1347 (wA_l q1348) q76 q1349 hy_78 ⟨Nat.le_of_ble_eq_true rfl, Nat.le_of_ble_eq_true rfl⟩ rfl rfl (Nat.le_of_ble_eq_true rfl) dX13_init_60 rfl (kS ?_) kN
  obtain ⟨c22, e⟩ := gd_of e
  obtain ⟨r23, h24, e25, e⟩ := bd2_of e
  refine k_VN (pc' := 66) (x := ⟨"BlockPapers$Workshop", "waste", "(LBlockPapers$Roll;II)I"⟩) (ci := 1) (n := 3) hc_X13_init ho_X13_init rfl c22 (w_X2_waste D l hl x1 r5 v10 r19 h20 e25) q1458 q1374 qs11 q76 q1375 hy_79 ⟨Nat.le_of_ble_eq_true rfl, Nat.le_of_ble_eq_true rfl⟩ rfl rfl (Nat.le_of_ble_eq_true rfl) dX13_init_63 rfl (kS ?_) kN
  refine v_pfF (pc' := 69) hc_X13_init ho_X13_init rfl KX13 1 (Nat.le_of_ble_eq_true rfl) q1462 rfl rfl rfl dX13_init_66 rfl rfl rfl e (fun h26 _ e => ?_)
  refine v_aload_n (pc' := 70) hc_X13_init dX13_init_69 rfl rfl 1 rfl ?_
  refine v_aload (pc' := 72) hc_X13_init dX13_init_70 rfl 0 rfl ?_
  obtain ⟨c27, e⟩ := gd_of e
  obtain ⟨r28, h29, e30, e⟩ := bd2_of e
  refine k_V (pc' := 75) (ci := 9) (n := 0) hc_X13_init ho_X13_init rfl c27 (w_X10_left D l hl r5 h26 e30) (wA_l q1459) q518 (wA_l q519) q109 q520 hy_80 ⟨Nat.le_of_ble_eq_true rfl, Nat.le_of_ble_eq_true rfl⟩ rfl rfl (Nat.le_of_ble_eq_true rfl) dX13_init_72 rfl (kS ?_) kN
  refine v_pfF (pc' := 78) hc_X13_init ho_X13_init rfl KX13 2 (Nat.le_of_ble_eq_true rfl) q1463 rfl rfl rfl dX13_init_75 rfl rfl rfl e (fun h31 _ e => ?_)
  obtain ⟨rfl, rfl⟩ := ret_of e
  exact v_ret hc_X13_init rfl dX13_init_78 rfl rfl
theorem w_X13_init (D : va_G) (l : Launch) (hl : l.stackTraces = false) (x0 : Nat) (x1 : Nat) (x2 : Int32) (x3 : Nat) (h : AH) {r : Unit} {hF : AH} (e : f_X13_init x0 x1 x2 x3 h = some (r, hF)) : MetV D l yX13_init (Cond.code yX13_init cX13_init 5 (Option.none : Option FieldType)) 6 155 [.ref x0, .ref x1, .int x2, .ref x3] h hF (oV r) :=
  met_ofF (by decide +kernel) hl (Nat.le_of_ble_eq_true rfl) rfl (v_X13_init D l hl [.ref x0, .ref x1, .int x2, .ref x3] h x0 x1 x2 x3 h e)
/-! BlockPapers$Workshop$1Offer.isBetter(LBlockPapers$Workshop$1Offer;)Z  -/
abbrev G_X13_isBetter (D : va_G) (l : Launch) (as : List Value) (h0 hF : AH) (o : Out) : CT := (D, l, (yX13_isBetter.cls, yX13_isBetter, cX13_isBetter, 2, (Option.some .boolean), 1, 48, []), as, h0, hF, o)
theorem hc_X13_isBetter {D : va_G} {l : Launch} {as : List Value} {h0 hF : AH} {o : Out} : gC (G_X13_isBetter D l as h0 hF o) = cX13_isBetter := rfl
theorem ho_X13_isBetter {D : va_G} {l : Launch} {as : List Value} {h0 hF : AH} {o : Out} : gO (G_X13_isBetter D l as h0 hF o) = "BlockPapers$Workshop$1Offer" := rfl
theorem hp_X13_isBetter {D : va_G} {l : Launch} {as : List Value} {h0 hF : AH} {o : Out} (pc : Nat) : ∀ z ∈ tableOf (gHd (G_X13_isBetter D l as h0 hF o)), covers z pc = false := hpN
def f_X13_isBetter (x0 : Nat) (x1 : Nat) (h : AH) : Option (Int32 × AH) :=
  bd (gtI h 11 x0 1) fun v1 =>
  bd (gtI h 11 x1 1) fun v2 =>
  if v1 < v2 then (
    some ((1 : Int32), h)
  ) else (
    bd (gtI h 11 x0 1) fun v3 =>
    bd (gtI h 11 x1 1) fun v4 =>
    if v3 = v4 then (
      bd (gtI h 11 x0 2) fun v5 =>
      bd (gtI h 11 x1 2) fun v6 =>
      if v6 ≤ v5 then (
        some ((0 : Int32), h)
      ) else (
        some ((1 : Int32), h)
      )
    ) else (
      some ((0 : Int32), h)
    )
  )
theorem v_X13_isBetter (D : va_G) (l : Launch) (hl : l.stackTraces = false) (as : List Value) (h0 : AH) {r : Int32} {hF : AH} (x0 : Nat) (x1 : Nat) (h : AH) (e : f_X13_isBetter x0 x1 h = some (r, hF)) : V (G_X13_isBetter D l as h0 hF (oI r)) h 0 [(0, .ref x0), (1, .ref x1)] [] := by
  unfold f_X13_isBetter at e
  refine v_aload_n (pc' := 1) hc_X13_isBetter dX13_isBetter_0 rfl rfl 0 rfl ?_
  refine v_gfI (pc' := 4) hc_X13_isBetter ho_X13_isBetter KX13 1 (Nat.le_of_ble_eq_true rfl) q1462 (Or.inl rfl) dX13_isBetter_1 rfl e (fun v1 _ e => ?_)
  refine v_aload_n (pc' := 5) hc_X13_isBetter dX13_isBetter_4 rfl rfl 1 rfl ?_
  refine v_gfI (pc' := 8) hc_X13_isBetter ho_X13_isBetter KX13 1 (Nat.le_of_ble_eq_true rfl) q1462 (Or.inl rfl) dX13_isBetter_5 rfl e (fun v2 _ e => ?_)
  refine v_icmp_lt (pt := 33) (pf := 11) hc_X13_isBetter dX13_isBetter_8 rfl rfl e (fun _ e => ?_) (fun _ e => ?_)
  · refine v_iconst (pc' := 34) (v := 1) hc_X13_isBetter dX13_isBetter_33 rfl rfl ?_
    refine v_goto (pt := 38) hc_X13_isBetter dX13_isBetter_34 rfl ?_
    obtain ⟨rfl, rfl⟩ := ret_of e
    exact v_zret hc_X13_isBetter rfl (ft := .boolean) rfl dX13_isBetter_38 rfl rfl
  · refine v_aload_n (pc' := 12) hc_X13_isBetter dX13_isBetter_11 rfl rfl 0 rfl ?_
    refine v_gfI (pc' := 15) hc_X13_isBetter ho_X13_isBetter KX13 1 (Nat.le_of_ble_eq_true rfl) q1462 (Or.inl rfl) dX13_isBetter_12 rfl e (fun v3 _ e => ?_)
    refine v_aload_n (pc' := 16) hc_X13_isBetter dX13_isBetter_15 rfl rfl 1 rfl ?_
    refine v_gfI (pc' := 19) hc_X13_isBetter ho_X13_isBetter KX13 1 (Nat.le_of_ble_eq_true rfl) q1462 (Or.inl rfl) dX13_isBetter_16 rfl e (fun v4 _ e => ?_)
    refine v_icmp_ne (pt := 37) (pf := 22) hc_X13_isBetter dX13_isBetter_19 rfl rfl e (fun _ e => ?_) (fun _ e => ?_)
    · refine v_aload_n (pc' := 23) hc_X13_isBetter dX13_isBetter_22 rfl rfl 0 rfl ?_
      refine v_gfI (pc' := 26) hc_X13_isBetter ho_X13_isBetter KX13 2 (Nat.le_of_ble_eq_true rfl) q1463 (Or.inl rfl) dX13_isBetter_23 rfl e (fun v5 _ e => ?_)
      refine v_aload_n (pc' := 27) hc_X13_isBetter dX13_isBetter_26 rfl rfl 1 rfl ?_
      refine v_gfI (pc' := 30) hc_X13_isBetter ho_X13_isBetter KX13 2 (Nat.le_of_ble_eq_true rfl) q1463 (Or.inl rfl) dX13_isBetter_27 rfl e (fun v6 _ e => ?_)
      refine v_icmp_ge (pt := 37) (pf := 33) hc_X13_isBetter dX13_isBetter_30 rfl rfl e (fun _ e => ?_) (fun _ e => ?_)
      · refine v_iconst (pc' := 38) (v := 0) hc_X13_isBetter dX13_isBetter_37 rfl rfl ?_
        obtain ⟨rfl, rfl⟩ := ret_of e
        exact v_zret hc_X13_isBetter rfl (ft := .boolean) rfl dX13_isBetter_38 rfl rfl
      · refine v_iconst (pc' := 34) (v := 1) hc_X13_isBetter dX13_isBetter_33 rfl rfl ?_
        refine v_goto (pt := 38) hc_X13_isBetter dX13_isBetter_34 rfl ?_
        obtain ⟨rfl, rfl⟩ := ret_of e
        exact v_zret hc_X13_isBetter rfl (ft := .boolean) rfl dX13_isBetter_38 rfl rfl
    · refine v_iconst (pc' := 38) (v := 0) hc_X13_isBetter dX13_isBetter_37 rfl rfl ?_
      obtain ⟨rfl, rfl⟩ := ret_of e
      exact v_zret hc_X13_isBetter rfl (ft := .boolean) rfl dX13_isBetter_38 rfl rfl
theorem w_X13_isBetter (D : va_G) (l : Launch) (hl : l.stackTraces = false) (x0 : Nat) (x1 : Nat) (h : AH) {r : Int32} {hF : AH} (e : f_X13_isBetter x0 x1 h = some (r, hF)) : MetV D l yX13_isBetter (Cond.code yX13_isBetter cX13_isBetter 2 (Option.some .boolean)) 1 48 [.ref x0, .ref x1] h hF (oI r) :=
  met_ofF (by decide +kernel) hl (Nat.le_of_ble_eq_true rfl) rfl (v_X13_isBetter D l hl [.ref x0, .ref x1] h x0 x1 h e)
/-! BlockPapers$Workshop.best(LBlockPapers$Room;)I  -/
abbrev G_X2_best (D : va_G) (l : Launch) (as : List Value) (h0 hF : AH) (o : Out) : CT := (D, l, (yX2_best.cls, yX2_best, cX2_best, 5, (Option.some .int), 8, 200, []), as, h0, hF, o)
theorem hc_X2_best {D : va_G} {l : Launch} {as : List Value} {h0 hF : AH} {o : Out} : gC (G_X2_best D l as h0 hF o) = cX2_best := rfl
theorem ho_X2_best {D : va_G} {l : Launch} {as : List Value} {h0 hF : AH} {o : Out} : gO (G_X2_best D l as h0 hF o) = "BlockPapers$Workshop" := rfl
theorem hp_X2_best {D : va_G} {l : Launch} {as : List Value} {h0 hF : AH} {o : Out} (pc : Nat) : ∀ z ∈ tableOf (gHd (G_X2_best D l as h0 hF o)), covers z pc = false := hpN
def fb_X2_best_l4 (rec : Nat → Nat → Option Nat → Int32 → AH → Option (Int32 × AH)) (x0 : Nat) (x1 : Nat) (x2 : Option Nat) (x3 : Int32) (h : AH) : Option (Int32 × AH) :=
  optR x2 (
    bd (gtR h 1 x0 2) fun v1 =>
    gd (isC h 16 v1) <|
    bd2 (f_J2_size v1 h) fun r3 h4 =>
    if r3 ≤ x3 then (
      some ((-1 : Int32), h4)
    ) else (
      bd (gtR h4 1 x0 2) fun v6 =>
      gd (isC h4 16 v6) <|
      bd2 (f_J2_get v6 x3 h4) fun r8 h9 =>
      gd (isC h9 9 r8) <|
      gd (isC h9 1 x0) <|
      bd2 (f_X2_reason x0 x1 r8 h9) fun r13 h14 =>
      if r13 = 0 then (
        bd2 (nwX h14 11 5 fsX13) fun a17 h16 =>
        bd2 (f_X13_init a17 x0 x3 x1 h16) fun r18 h19 =>
        rec x0 x1 (some a17) (x3 + 1) h19
      ) else (
        rec x0 x1 none (x3 + 1) h14
      )
    )
  ) fun x2_ =>
  bd (gtR h 1 x0 2) fun v21 =>
  gd (isC h 16 v21) <|
  bd2 (f_J2_size v21 h) fun r23 h24 =>
  if r23 ≤ x3 then (
    bd (gtI h24 11 x2_ 0) fun v26 =>
    some (v26, h24)
  ) else (
    bd (gtR h24 1 x0 2) fun v27 =>
    gd (isC h24 16 v27) <|
    bd2 (f_J2_get v27 x3 h24) fun r29 h30 =>
    gd (isC h30 9 r29) <|
    gd (isC h30 1 x0) <|
    bd2 (f_X2_reason x0 x1 r29 h30) fun r34 h35 =>
    if r34 = 0 then (
      bd2 (nwX h35 11 5 fsX13) fun a38 h37 =>
      bd2 (f_X13_init a38 x0 x3 x1 h37) fun r39 h40 =>
      gd (isC h40 11 a38) <|
      bd2 (f_X13_isBetter a38 x2_ h40) fun r43 h44 =>
      if r43 = 0 then (
        rec x0 x1 (some x2_) (x3 + 1) h44
      ) else (
        rec x0 x1 (some a38) (x3 + 1) h44
      )
    ) else (
      rec x0 x1 (some x2_) (x3 + 1) h35
    )
  )
def f_X2_best_l4 : Nat → Nat → Nat → Option Nat → Int32 → AH → Option (Int32 × AH)
  | 0 => fun _ _ _ _ _ => none
  | n + 1 => fb_X2_best_l4 (f_X2_best_l4 n) 
theorem w_X2_best_l4 (D : va_G) (l : Launch) (hl : l.stackTraces = false) (as : List Value) (h0 : AH) {r : Int32} {hF : AH} : ∀ (n : Nat) (x0 : Nat) (x1 : Nat) (x2 : Option Nat) (x3 : Int32) (h : AH), f_X2_best_l4 n x0 x1 x2 x3 h = some (r, hF) → V (G_X2_best D l as h0 hF (oI r)) h 4 [(0, .ref x0), (1, .ref x1), (2, va_rf x2), (3, .int x3)] [] := by
  intro n; induction n with
  | zero => intro x0 x1 x2 x3 h e; exact absurd (show (none : Option (Int32 × AH)) = some _ from e) (fun z => nomatch z)
  | succ n IH =>
    intro x0 x1 x2 x3 h e
    have e : fb_X2_best_l4 (f_X2_best_l4 n) x0 x1 x2 x3 h = some (r, hF) := e
    unfold fb_X2_best_l4 at e
    replace e := optR_of e
    rcases e with ⟨z, e⟩ | ⟨x2_, z, e⟩
    · subst z
      refine v_iload_n (pc' := 5) hc_X2_best dX2_best_4 rfl rfl 3 rfl ?_
      refine v_aload_n (pc' := 6) hc_X2_best dX2_best_5 rfl rfl 0 rfl ?_
      refine v_gfR (pc' := 9) hc_X2_best ho_X2_best KX2 2 (Nat.le_of_ble_eq_true rfl) q169 (Or.inl rfl) dX2_best_6 rfl e (fun v1 _ e => ?_)
      obtain ⟨c2, e⟩ := gd_of e
      obtain ⟨r3, h4, e5, e⟩ := bd2_of e
      refine k_F (pc' := 14) (x := ⟨"java/util/List", "size", "()I"⟩) (y := ⟨"java/util/ArrayList", "size", "()I"⟩) (ci := 16) (n := 0) hc_X2_best ho_X2_best rfl c2 (w_J2_size D l hl v1 h e5) (wA_l q513) (by decide +kernel) q348 q350 q79 q352 hy_19 ⟨Nat.le_of_ble_eq_true rfl, Nat.le_of_ble_eq_true rfl⟩ rfl rfl (Nat.le_of_ble_eq_true rfl) dX2_best_9 rfl (kS ?_) kN
      refine v_icmp_ge (pt := 76) (pf := 17) hc_X2_best dX2_best_14 rfl rfl e (fun _ e => ?_) (fun _ e => ?_)
      · refine v_aload_nN (pc' := 77) hc_X2_best dX2_best_76 rfl rfl 2 rfl ?_
        refine v_ifnonnullN (pc' := 80) hc_X2_best dX2_best_77 rfl ?_
        refine v_iconst (pc' := 81) (v := (-1)) hc_X2_best dX2_best_80 rfl rfl ?_
        refine v_goto (pt := 88) hc_X2_best dX2_best_81 rfl ?_
        obtain ⟨rfl, rfl⟩ := ret_of e
        exact v_iret hc_X2_best rfl dX2_best_88 rfl rfl
      · refine v_aload_n (pc' := 18) hc_X2_best dX2_best_17 rfl rfl 0 rfl ?_
        refine v_aload_n (pc' := 19) hc_X2_best dX2_best_18 rfl rfl 1 rfl ?_
        refine v_aload_n (pc' := 20) hc_X2_best dX2_best_19 rfl rfl 0 rfl ?_
        refine v_gfR (pc' := 23) hc_X2_best ho_X2_best KX2 2 (Nat.le_of_ble_eq_true rfl) q169 (Or.inl rfl) dX2_best_20 rfl e (fun v6 _ e => ?_)
        refine v_iload_n (pc' := 24) hc_X2_best dX2_best_23 rfl rfl 3 rfl ?_
        obtain ⟨c7, e⟩ := gd_of e
        obtain ⟨r8, h9, e10, e⟩ := bd2_of e
        refine k_F (pc' := 29) (x := ⟨"java/util/List", "get", "(I)Ljava/lang/Object;"⟩) (y := ⟨"java/util/ArrayList", "get", "(I)Ljava/lang/Object;"⟩) (ci := 16) (n := 1) hc_X2_best ho_X2_best rfl c7 (w_J2_get D l hl v6 x3 h4 e10) (wA_l q515) (by decide +kernel) q401 q403 q79 q405 hy_23 ⟨Nat.le_of_ble_eq_true rfl, Nat.le_of_ble_eq_true rfl⟩ rfl rfl (Nat.le_of_ble_eq_true rfl) dX2_best_24 rfl (kS ?_) kN
        obtain ⟨c11, e⟩ := gd_of e
        refine v_cast (pc' := 32) (ci := 9) hc_X2_best ho_X2_best rfl q516 (Or.inl rfl) dX2_best_29 rfl c11 ?_
        obtain ⟨c12, e⟩ := gd_of e
        obtain ⟨r13, h14, e15, e⟩ := bd2_of e
        refine k_V (pc' := 35) (ci := 1) (n := 2) hc_X2_best ho_X2_best rfl c12 (w_X2_reason D l hl x0 x1 r8 h9 e15) (wA_l q1314) q1315 (wA_l q1316) q76 q1317 hy_82 ⟨Nat.le_of_ble_eq_true rfl, Nat.le_of_ble_eq_true rfl⟩ rfl rfl (Nat.le_of_ble_eq_true rfl) dX2_best_32 rfl (kS ?_) kN
        refine v_if_ne (pt := 70) (pf := 38) hc_X2_best dX2_best_35 rfl rfl e (fun _ e => ?_) (fun _ e => ?_)
        · refine v_newX (pc' := 41) hc_X2_best ho_X2_best KX13 q1446 q1447 q112 rfl dfX13 dX2_best_38 rfl e (fun a17 h16 _ e => ?_)
          refine v_dup (pc' := 42) hc_X2_best dX2_best_41 rfl rfl ?_
          refine v_aload_n (pc' := 43) hc_X2_best dX2_best_42 rfl rfl 0 rfl ?_
          refine v_iload_n (pc' := 44) hc_X2_best dX2_best_43 rfl rfl 3 rfl ?_
          refine v_aload_n (pc' := 45) hc_X2_best dX2_best_44 rfl rfl 1 rfl ?_
          obtain ⟨r18, h19, e20, e⟩ := bd2_of e
          refine k_I (pc' := 48) (n := 3) hc_X2_best ho_X2_best (w_X13_init D l hl a17 x0 x3 x1 h16 e20) (wA_l q1448) q1449 q112 q1450 rfl hy_91 ⟨Nat.le_of_ble_eq_true rfl, Nat.le_of_ble_eq_true rfl⟩ rfl rfl (Nat.le_of_ble_eq_true rfl) dX2_best_45 rfl (kU ?_) kN
          refine v_astore (pc' := 50) (lv' := [(4, .ref a17), (0, .ref x0), (1, .ref x1), (2, .null), (3, .int x3)]) hc_X2_best dX2_best_48 rfl (Nat.le_of_ble_eq_true rfl) rfl ?_
          refine v_aload_nN (pc' := 51) hc_X2_best dX2_best_50 rfl rfl 3 rfl ?_
          refine v_ifnullN (x := 0) (pt := 63) hc_X2_best dX2_best_51 rfl ?_
          refine v_aload (pc' := 65) hc_X2_best dX2_best_63 rfl 0 rfl ?_
          refine v_goto (pt := 69) hc_X2_best dX2_best_65 rfl ?_
          refine v_astore_n (pc' := 70) (lv' := [(2, .ref a17), (4, .ref a17), (0, .ref x0), (1, .ref x1), (3, .int x3)]) hc_X2_best dX2_best_69 rfl rfl (Nat.le_of_ble_eq_true rfl) rfl ?_
          refine v_iinc (pc' := 73) (lv' := [(3, .int (x3 + 1)), (2, .ref a17), (4, .ref a17), (0, .ref x0), (1, .ref x1)]) (v := x3 + 1) hc_X2_best dX2_best_70 rfl 4 rfl rfl (Nat.le_of_ble_eq_true rfl) rfl ?_
          refine v_goto (pt := 4) hc_X2_best dX2_best_73 rfl ?_
          refine v_pick [3, 4, 1, 0] rfl ?_
          exact IH x0 x1 (some a17) (x3 + 1) h19 e
        · refine v_iinc (pc' := 73) (lv' := [(3, .int (x3 + 1)), (0, .ref x0), (1, .ref x1), (2, .null)]) (v := x3 + 1) hc_X2_best dX2_best_70 rfl 3 rfl rfl (Nat.le_of_ble_eq_true rfl) rfl ?_
          refine v_goto (pt := 4) hc_X2_best dX2_best_73 rfl ?_
          refine v_pick [1, 2, 3, 0] rfl ?_
          exact IH x0 x1 none (x3 + 1) h14 e
    · subst z
      refine v_iload_n (pc' := 5) hc_X2_best dX2_best_4 rfl rfl 3 rfl ?_
      refine v_aload_n (pc' := 6) hc_X2_best dX2_best_5 rfl rfl 0 rfl ?_
      refine v_gfR (pc' := 9) hc_X2_best ho_X2_best KX2 2 (Nat.le_of_ble_eq_true rfl) q169 (Or.inl rfl) dX2_best_6 rfl e (fun v21 _ e => ?_)
      obtain ⟨c22, e⟩ := gd_of e
      obtain ⟨r23, h24, e25, e⟩ := bd2_of e
      refine k_F (pc' := 14) (x := ⟨"java/util/List", "size", "()I"⟩) (y := ⟨"java/util/ArrayList", "size", "()I"⟩) (ci := 16) (n := 0) hc_X2_best ho_X2_best rfl c22 (w_J2_size D l hl v21 h e25) (wA_l q513) (by decide +kernel) q348 q350 q79 q352 hy_19 ⟨Nat.le_of_ble_eq_true rfl, Nat.le_of_ble_eq_true rfl⟩ rfl rfl (Nat.le_of_ble_eq_true rfl) dX2_best_9 rfl (kS ?_) kN
      refine v_icmp_ge (pt := 76) (pf := 17) hc_X2_best dX2_best_14 rfl rfl e (fun _ e => ?_) (fun _ e => ?_)
      · refine v_aload_n (pc' := 77) hc_X2_best dX2_best_76 rfl rfl 2 rfl ?_
        refine v_ifnonnull (pt := 84) hc_X2_best dX2_best_77 rfl ?_
        refine v_aload_n (pc' := 85) hc_X2_best dX2_best_84 rfl rfl 2 rfl ?_
        refine v_gnI (pc' := 88) hc_X2_best ho_X2_best KX13 0 (Nat.le_of_ble_eq_true rfl) q1461 rfl dX2_best_85 rfl e (fun v26 _ e => ?_)
        obtain ⟨rfl, rfl⟩ := ret_of e
        exact v_iret hc_X2_best rfl dX2_best_88 rfl rfl
      · refine v_aload_n (pc' := 18) hc_X2_best dX2_best_17 rfl rfl 0 rfl ?_
        refine v_aload_n (pc' := 19) hc_X2_best dX2_best_18 rfl rfl 1 rfl ?_
        refine v_aload_n (pc' := 20) hc_X2_best dX2_best_19 rfl rfl 0 rfl ?_
        refine v_gfR (pc' := 23) hc_X2_best ho_X2_best KX2 2 (Nat.le_of_ble_eq_true rfl) q169 (Or.inl rfl) dX2_best_20 rfl e (fun v27 _ e => ?_)
        refine v_iload_n (pc' := 24) hc_X2_best dX2_best_23 rfl rfl 3 rfl ?_
        obtain ⟨c28, e⟩ := gd_of e
        obtain ⟨r29, h30, e31, e⟩ := bd2_of e
        refine k_F (pc' := 29) (x := ⟨"java/util/List", "get", "(I)Ljava/lang/Object;"⟩) (y := ⟨"java/util/ArrayList", "get", "(I)Ljava/lang/Object;"⟩) (ci := 16) (n := 1) hc_X2_best ho_X2_best rfl c28 (w_J2_get D l hl v27 x3 h24 e31) (wA_l q515) (by decide +kernel) q401 q403 q79 q405 hy_23 ⟨Nat.le_of_ble_eq_true rfl, Nat.le_of_ble_eq_true rfl⟩ rfl rfl (Nat.le_of_ble_eq_true rfl) dX2_best_24 rfl (kS ?_) kN
        obtain ⟨c32, e⟩ := gd_of e
        refine v_cast (pc' := 32) (ci := 9) hc_X2_best ho_X2_best rfl q516 (Or.inl rfl) dX2_best_29 rfl c32 ?_
        obtain ⟨c33, e⟩ := gd_of e
        obtain ⟨r34, h35, e36, e⟩ := bd2_of e
        refine k_V (pc' := 35) (ci := 1) (n := 2) hc_X2_best ho_X2_best rfl c33 (w_X2_reason D l hl x0 x1 r29 h30 e36) (wA_l q1314) q1315 (wA_l q1316) q76 q1317 hy_82 ⟨Nat.le_of_ble_eq_true rfl, Nat.le_of_ble_eq_true rfl⟩ rfl rfl (Nat.le_of_ble_eq_true rfl) dX2_best_32 rfl (kS ?_) kN
        refine v_if_ne (pt := 70) (pf := 38) hc_X2_best dX2_best_35 rfl rfl e (fun _ e => ?_) (fun _ e => ?_)
        · refine v_newX (pc' := 41) hc_X2_best ho_X2_best KX13 q1446 q1447 q112 rfl dfX13 dX2_best_38 rfl e (fun a38 h37 _ e => ?_)
          refine v_dup (pc' := 42) hc_X2_best dX2_best_41 rfl rfl ?_
          refine v_aload_n (pc' := 43) hc_X2_best dX2_best_42 rfl rfl 0 rfl ?_
          refine v_iload_n (pc' := 44) hc_X2_best dX2_best_43 rfl rfl 3 rfl ?_
          refine v_aload_n (pc' := 45) hc_X2_best dX2_best_44 rfl rfl 1 rfl ?_
          obtain ⟨r39, h40, e41, e⟩ := bd2_of e
          refine k_I (pc' := 48) (n := 3) hc_X2_best ho_X2_best (w_X13_init D l hl a38 x0 x3 x1 h37 e41) (wA_l q1448) q1449 q112 q1450 rfl hy_91 ⟨Nat.le_of_ble_eq_true rfl, Nat.le_of_ble_eq_true rfl⟩ rfl rfl (Nat.le_of_ble_eq_true rfl) dX2_best_45 rfl (kU ?_) kN
          refine v_astore (pc' := 50) (lv' := [(4, .ref a38), (0, .ref x0), (1, .ref x1), (2, .ref x2_), (3, .int x3)]) hc_X2_best dX2_best_48 rfl (Nat.le_of_ble_eq_true rfl) rfl ?_
          refine v_aload_n (pc' := 51) hc_X2_best dX2_best_50 rfl rfl 3 rfl ?_
          refine v_ifnull (pc' := 54) hc_X2_best dX2_best_51 rfl ?_
          refine v_aload (pc' := 56) hc_X2_best dX2_best_54 rfl 0 rfl ?_
          refine v_aload_n (pc' := 57) hc_X2_best dX2_best_56 rfl rfl 3 rfl ?_
          obtain ⟨c42, e⟩ := gd_of e
          obtain ⟨r43, h44, e45, e⟩ := bd2_of e
          refine k_V (pc' := 60) (ci := 11) (n := 1) hc_X2_best ho_X2_best rfl c42 (w_X13_isBetter D l hl a38 x2_ h40 e45) (wA_l q1477) q1478 (wA_l q1479) q112 q1480 hy_92 ⟨Nat.le_of_ble_eq_true rfl, Nat.le_of_ble_eq_true rfl⟩ rfl rfl (Nat.le_of_ble_eq_true rfl) dX2_best_57 rfl (kS ?_) kN
          refine v_if_eq (pt := 68) (pf := 63) hc_X2_best dX2_best_60 rfl rfl e (fun _ e => ?_) (fun _ e => ?_)
          · refine v_aload_n (pc' := 69) hc_X2_best dX2_best_68 rfl rfl 3 rfl ?_
            refine v_astore_n (pc' := 70) (lv' := [(2, .ref x2_), (4, .ref a38), (0, .ref x0), (1, .ref x1), (3, .int x3)]) hc_X2_best dX2_best_69 rfl rfl (Nat.le_of_ble_eq_true rfl) rfl ?_
            refine v_iinc (pc' := 73) (lv' := [(3, .int (x3 + 1)), (2, .ref x2_), (4, .ref a38), (0, .ref x0), (1, .ref x1)]) (v := x3 + 1) hc_X2_best dX2_best_70 rfl 4 rfl rfl (Nat.le_of_ble_eq_true rfl) rfl ?_
            refine v_goto (pt := 4) hc_X2_best dX2_best_73 rfl ?_
            refine v_pick [3, 4, 1, 0] rfl ?_
            exact IH x0 x1 (some x2_) (x3 + 1) h44 e
          · refine v_aload (pc' := 65) hc_X2_best dX2_best_63 rfl 0 rfl ?_
            refine v_goto (pt := 69) hc_X2_best dX2_best_65 rfl ?_
            refine v_astore_n (pc' := 70) (lv' := [(2, .ref a38), (4, .ref a38), (0, .ref x0), (1, .ref x1), (3, .int x3)]) hc_X2_best dX2_best_69 rfl rfl (Nat.le_of_ble_eq_true rfl) rfl ?_
            refine v_iinc (pc' := 73) (lv' := [(3, .int (x3 + 1)), (2, .ref a38), (4, .ref a38), (0, .ref x0), (1, .ref x1)]) (v := x3 + 1) hc_X2_best dX2_best_70 rfl 4 rfl rfl (Nat.le_of_ble_eq_true rfl) rfl ?_
            refine v_goto (pt := 4) hc_X2_best dX2_best_73 rfl ?_
            refine v_pick [3, 4, 1, 0] rfl ?_
            exact IH x0 x1 (some a38) (x3 + 1) h44 e
        · refine v_iinc (pc' := 73) (lv' := [(3, .int (x3 + 1)), (0, .ref x0), (1, .ref x1), (2, .ref x2_)]) (v := x3 + 1) hc_X2_best dX2_best_70 rfl 3 rfl rfl (Nat.le_of_ble_eq_true rfl) rfl ?_
          refine v_goto (pt := 4) hc_X2_best dX2_best_73 rfl ?_
          refine v_pick [1, 2, 3, 0] rfl ?_
          exact IH x0 x1 (some x2_) (x3 + 1) h35 e
def f_X2_best (x0 : Nat) (x1 : Nat) (h : AH) : Option (Int32 × AH) :=
  f_X2_best_l4 NN x0 x1 none (0 : Int32) h
theorem v_X2_best (D : va_G) (l : Launch) (hl : l.stackTraces = false) (as : List Value) (h0 : AH) {r : Int32} {hF : AH} (x0 : Nat) (x1 : Nat) (h : AH) (e : f_X2_best x0 x1 h = some (r, hF)) : V (G_X2_best D l as h0 hF (oI r)) h 0 [(0, .ref x0), (1, .ref x1)] [] := by
  unfold f_X2_best at e
  refine v_null (pc' := 1) hc_X2_best dX2_best_0 rfl ?_
  refine v_astore_nN (pc' := 2) (lv' := [(2, .null), (0, .ref x0), (1, .ref x1)]) hc_X2_best dX2_best_1 rfl rfl (Nat.le_of_ble_eq_true rfl) rfl ?_
  refine v_iconst (pc' := 3) (v := 0) hc_X2_best dX2_best_2 rfl rfl ?_
  refine v_istore_n (pc' := 4) (lv' := [(3, .int (0 : Int32)), (2, .null), (0, .ref x0), (1, .ref x1)]) hc_X2_best dX2_best_3 rfl rfl (Nat.le_of_ble_eq_true rfl) rfl ?_
  refine v_pick [2, 3, 1, 0] rfl ?_
  exact w_X2_best_l4 D l hl as h0 NN x0 x1 none (0 : Int32) h e
theorem w_X2_best (D : va_G) (l : Launch) (hl : l.stackTraces = false) (x0 : Nat) (x1 : Nat) (h : AH) {r : Int32} {hF : AH} (e : f_X2_best x0 x1 h = some (r, hF)) : MetV D l yX2_best (Cond.code yX2_best cX2_best 5 (Option.some .int)) 8 200 [.ref x0, .ref x1] h hF (oI r) :=
  met_ofF (by decide +kernel) hl (Nat.le_of_ble_eq_true rfl) rfl (v_X2_best D l hl [.ref x0, .ref x1] h x0 x1 h e)
/-! BlockPapers$Workshop.finish(I)I  -/
abbrev G_X2_finish (D : va_G) (l : Launch) (as : List Value) (h0 hF : AH) (o : Out) : CT := (D, l, (yX2_finish.cls, yX2_finish, cX2_finish, 6, (Option.some .int), 9, 226, []), as, h0, hF, o)
theorem hc_X2_finish {D : va_G} {l : Launch} {as : List Value} {h0 hF : AH} {o : Out} : gC (G_X2_finish D l as h0 hF o) = cX2_finish := rfl
theorem ho_X2_finish {D : va_G} {l : Launch} {as : List Value} {h0 hF : AH} {o : Out} : gO (G_X2_finish D l as h0 hF o) = "BlockPapers$Workshop" := rfl
theorem hp_X2_finish {D : va_G} {l : Launch} {as : List Value} {h0 hF : AH} {o : Out} (pc : Nat) : ∀ z ∈ tableOf (gHd (G_X2_finish D l as h0 hF o)), covers z pc = false := hpN
def fb_X2_finish_l35 (rec : Nat → Int32 → Nat → Int32 → Int32 → AH → Option ((Int32 ⊕ Nat) × AH)) (x0 : Nat) (x1 : Int32) (x2 : Nat) (x3 : Int32) (x4 : Int32) (h : AH) : Option ((Int32 ⊕ Nat) × AH) :=
  if x4 = (-1 : Int32) then (
    if x3 ≤ 0 then (
      bdX (f_X1_allow (0 : Int32) (14 : Int32) x1 h) (fun zq4 h2 =>
        outX h2 zq4
      ) fun r1 h2 =>
      some (.inl x3, h2)
    ) else (
      bdX (f_X1_allow (1 : Int32) (14 : Int32) x1 h) (fun zq8 h6 =>
        outX h6 zq8
      ) fun r5 h6 =>
      some (.inl x3, h6)
    )
  ) else (
    gd (isC h 1 x0) <|
    bd2 (f_X2_hang_2 x0 x2 x4 h) fun r10 h11 =>
    gd (isC h11 1 x0) <|
    bd2 (f_X2_best x0 x2 h11) fun r14 h15 =>
    rec x0 x1 x2 (x3 + 1) r14 h15
  )
def f_X2_finish_l35 : Nat → Nat → Int32 → Nat → Int32 → Int32 → AH → Option ((Int32 ⊕ Nat) × AH)
  | 0 => fun _ _ _ _ _ _ => none
  | n + 1 => fb_X2_finish_l35 (f_X2_finish_l35 n) 
theorem w_X2_finish_l35 (D : va_G) (l : Launch) (hl : l.stackTraces = false) (as : List Value) (h0 : AH) {r : (Int32 ⊕ Nat)} {hF : AH} : ∀ (n : Nat) (x0 : Nat) (x1 : Int32) (x2 : Nat) (x3 : Int32) (x4 : Int32) (h : AH), f_X2_finish_l35 n x0 x1 x2 x3 x4 h = some (r, hF) → V (G_X2_finish D l as h0 hF ((oX oI) r)) h 35 [(0, .ref x0), (1, .int x1), (2, .ref x2), (3, .int x3), (4, .int x4)] [] := by
  intro n; induction n with
  | zero => intro x0 x1 x2 x3 x4 h e; exact absurd (show (none : Option ((Int32 ⊕ Nat) × AH)) = some _ from e) (fun z => nomatch z)
  | succ n IH =>
    intro x0 x1 x2 x3 x4 h e
    have e : fb_X2_finish_l35 (f_X2_finish_l35 n) x0 x1 x2 x3 x4 h = some (r, hF) := e
    unfold fb_X2_finish_l35 at e
    refine v_iload (pc' := 37) hc_X2_finish dX2_finish_35 rfl 4 rfl ?_
    refine v_iconst (pc' := 38) (v := (-1)) hc_X2_finish dX2_finish_37 rfl rfl ?_
    refine v_icmp_eq (pt := 63) (pf := 41) hc_X2_finish dX2_finish_38 rfl rfl e (fun _ e => ?_) (fun _ e => ?_)
    · refine v_iload_n (pc' := 64) hc_X2_finish dX2_finish_63 rfl rfl 3 rfl ?_
      refine v_if_le (pt := 71) (pf := 67) hc_X2_finish dX2_finish_64 rfl rfl e (fun _ e => ?_) (fun _ e => ?_)
      · refine v_iconst (pc' := 72) (v := 0) hc_X2_finish dX2_finish_71 rfl rfl ?_
        refine v_bipush (pc' := 74) (v := 14) hc_X2_finish dX2_finish_72 rfl rfl ?_
        refine v_iload_n (pc' := 75) hc_X2_finish dX2_finish_74 rfl rfl 1 rfl ?_
        rcases bdX_of e with ⟨r1, h2, e3, e⟩ | ⟨zq4, h2, e3, e⟩
        · refine k_SN (pc' := 78) (x := ⟨"BlockPapers", "allow", "(ZII)V"⟩) (n := 3) hc_X2_finish ho_X2_finish (w_X1_allow D l hl (0 : Int32) (14 : Int32) x1 h e3) q1090 q1091 q75 q1092 hy_44 ⟨Nat.le_of_ble_eq_true rfl, Nat.le_of_ble_eq_true rfl⟩ rfl rfl (Nat.le_of_ble_eq_true rfl) dX2_finish_75 rfl (kU ?_) kN
          refine v_iload_n (pc' := 79) hc_X2_finish dX2_finish_78 rfl rfl 3 rfl ?_
          obtain ⟨rfl, rfl⟩ := ret_of e
          exact v_iret hc_X2_finish rfl dX2_finish_79 rfl rfl
        · refine k_SN (pc' := 78) (x := ⟨"BlockPapers", "allow", "(ZII)V"⟩) (n := 3) hc_X2_finish ho_X2_finish (w_X1_allow D l hl (0 : Int32) (14 : Int32) x1 h e3) q1090 q1091 q75 q1092 hy_44 ⟨Nat.le_of_ble_eq_true rfl, Nat.le_of_ble_eq_true rfl⟩ rfl rfl (Nat.le_of_ble_eq_true rfl) dX2_finish_75 rfl kM (kX ?_)
          exact v_outA (hp_X2_finish _) rfl rfl e
      · refine v_iconst (pc' := 68) (v := 1) hc_X2_finish dX2_finish_67 rfl rfl ?_
        refine v_goto (pt := 72) hc_X2_finish dX2_finish_68 rfl ?_
        refine v_bipush (pc' := 74) (v := 14) hc_X2_finish dX2_finish_72 rfl rfl ?_
        refine v_iload_n (pc' := 75) hc_X2_finish dX2_finish_74 rfl rfl 1 rfl ?_
        rcases bdX_of e with ⟨r5, h6, e7, e⟩ | ⟨zq8, h6, e7, e⟩
        · refine k_SN (pc' := 78) (x := ⟨"BlockPapers", "allow", "(ZII)V"⟩) (n := 3) hc_X2_finish ho_X2_finish (w_X1_allow D l hl (1 : Int32) (14 : Int32) x1 h e7) q1090 q1091 q75 q1092 hy_44 ⟨Nat.le_of_ble_eq_true rfl, Nat.le_of_ble_eq_true rfl⟩ rfl rfl (Nat.le_of_ble_eq_true rfl) dX2_finish_75 rfl (kU ?_) kN
          refine v_iload_n (pc' := 79) hc_X2_finish dX2_finish_78 rfl rfl 3 rfl ?_
          obtain ⟨rfl, rfl⟩ := ret_of e
          exact v_iret hc_X2_finish rfl dX2_finish_79 rfl rfl
        · refine k_SN (pc' := 78) (x := ⟨"BlockPapers", "allow", "(ZII)V"⟩) (n := 3) hc_X2_finish ho_X2_finish (w_X1_allow D l hl (1 : Int32) (14 : Int32) x1 h e7) q1090 q1091 q75 q1092 hy_44 ⟨Nat.le_of_ble_eq_true rfl, Nat.le_of_ble_eq_true rfl⟩ rfl rfl (Nat.le_of_ble_eq_true rfl) dX2_finish_75 rfl kM (kX ?_)
          exact v_outA (hp_X2_finish _) rfl rfl e
    · refine v_aload_n (pc' := 42) hc_X2_finish dX2_finish_41 rfl rfl 0 rfl ?_
      refine v_aload_n (pc' := 43) hc_X2_finish dX2_finish_42 rfl rfl 2 rfl ?_
      refine v_iload (pc' := 45) hc_X2_finish dX2_finish_43 rfl 4 rfl ?_
      obtain ⟨c9, e⟩ := gd_of e
      obtain ⟨r10, h11, e12, e⟩ := bd2_of e
      refine k_V (pc' := 48) (ci := 1) (n := 2) hc_X2_finish ho_X2_finish rfl c9 (w_X2_hang_2 D l hl x0 x2 x4 h e12) (wA_l q1388) q1390 (wA_l qs12) q76 q1391 hy_86 ⟨Nat.le_of_ble_eq_true rfl, Nat.le_of_ble_eq_true rfl⟩ rfl rfl (Nat.le_of_ble_eq_true rfl) dX2_finish_45 rfl (kS ?_) kN
      refine v_istore (pc' := 50) (lv' := [(5, .int r10), (0, .ref x0), (1, .int x1), (2, .ref x2), (3, .int x3), (4, .int x4)]) hc_X2_finish dX2_finish_48 rfl (Nat.le_of_ble_eq_true rfl) rfl ?_
      refine v_iinc (pc' := 53) (lv' := [(3, .int (x3 + 1)), (5, .int r10), (0, .ref x0), (1, .int x1), (2, .ref x2), (4, .int x4)]) (v := x3 + 1) hc_X2_finish dX2_finish_50 rfl 4 rfl rfl (Nat.le_of_ble_eq_true rfl) rfl ?_
      refine v_aload_n (pc' := 54) hc_X2_finish dX2_finish_53 rfl rfl 2 rfl ?_
      refine v_aload_n (pc' := 55) hc_X2_finish dX2_finish_54 rfl rfl 4 rfl ?_
      obtain ⟨c13, e⟩ := gd_of e
      obtain ⟨r14, h15, e16, e⟩ := bd2_of e
      refine k_V (pc' := 58) (ci := 1) (n := 1) hc_X2_finish ho_X2_finish rfl c13 (w_X2_best D l hl x0 x2 h11 e16) (wA_l q1442) q1443 (wA_l q1444) q76 q1445 hy_93 ⟨Nat.le_of_ble_eq_true rfl, Nat.le_of_ble_eq_true rfl⟩ rfl rfl (Nat.le_of_ble_eq_true rfl) dX2_finish_55 rfl (kS ?_) kN
      refine v_istore (pc' := 60) (lv' := [(4, .int r14), (3, .int (x3 + 1)), (5, .int r10), (0, .ref x0), (1, .int x1), (2, .ref x2)]) hc_X2_finish dX2_finish_58 rfl (Nat.le_of_ble_eq_true rfl) rfl ?_
      refine v_goto (pt := 35) hc_X2_finish dX2_finish_60 rfl ?_
      refine v_pick [3, 4, 5, 1, 0] rfl ?_
      exact IH x0 x1 x2 (x3 + 1) r14 h15 e
def f_X2_finish_j18 (x0 : Nat) (x1 : Int32) (x2 : Nat) (s0 : Int32) (h : AH) : Option ((Int32 ⊕ Nat) × AH) :=
  bd (gtI h 4 x2 1) fun v1 =>
  bdX (f_X1_allow s0 (4 : Int32) v1 h) (fun zq9 h3 =>
    outX h3 zq9
  ) fun r2 h3 =>
  gd (isC h3 1 x0) <|
  bd2 (f_X2_best x0 x2 h3) fun r6 h7 =>
  f_X2_finish_l35 NN x0 x1 x2 (0 : Int32) r6 h7
theorem w_X2_finish_j18 (D : va_G) (l : Launch) (hl : l.stackTraces = false) (as : List Value) (h0 : AH) {r : (Int32 ⊕ Nat)} {hF : AH} (x0 : Nat) (x1 : Int32) (x2 : Nat) (s0 : Int32) (h : AH) (e : f_X2_finish_j18 x0 x1 x2 s0 h = some (r, hF)) : V (G_X2_finish D l as h0 hF ((oX oI) r)) h 18 [(0, .ref x0), (1, .int x1), (2, .ref x2)] [.int s0] := by
  unfold f_X2_finish_j18 at e
  refine v_iconst (pc' := 19) (v := 4) hc_X2_finish dX2_finish_18 rfl rfl ?_
  refine v_aload_n (pc' := 20) hc_X2_finish dX2_finish_19 rfl rfl 2 rfl ?_
  refine v_gnI (pc' := 23) hc_X2_finish ho_X2_finish KX5 1 (Nat.le_of_ble_eq_true rfl) q877 rfl dX2_finish_20 rfl e (fun v1 _ e => ?_)
  rcases bdX_of e with ⟨r2, h3, e4, e⟩ | ⟨zq9, h3, e4, e⟩
  · refine k_SN (pc' := 26) (x := ⟨"BlockPapers", "allow", "(ZII)V"⟩) (n := 3) hc_X2_finish ho_X2_finish (w_X1_allow D l hl s0 (4 : Int32) v1 h e4) q1090 q1091 q75 q1092 hy_44 ⟨Nat.le_of_ble_eq_true rfl, Nat.le_of_ble_eq_true rfl⟩ rfl rfl (Nat.le_of_ble_eq_true rfl) dX2_finish_23 rfl (kU ?_) kN
    refine v_iconst (pc' := 27) (v := 0) hc_X2_finish dX2_finish_26 rfl rfl ?_
    refine v_istore_n (pc' := 28) (lv' := [(3, .int (0 : Int32)), (0, .ref x0), (1, .int x1), (2, .ref x2)]) hc_X2_finish dX2_finish_27 rfl rfl (Nat.le_of_ble_eq_true rfl) rfl ?_
    refine v_aload_n (pc' := 29) hc_X2_finish dX2_finish_28 rfl rfl 1 rfl ?_
    refine v_aload_n (pc' := 30) hc_X2_finish dX2_finish_29 rfl rfl 3 rfl ?_
    obtain ⟨c5, e⟩ := gd_of e
    obtain ⟨r6, h7, e8, e⟩ := bd2_of e
    refine k_V (pc' := 33) (ci := 1) (n := 1) hc_X2_finish ho_X2_finish rfl c5 (w_X2_best D l hl x0 x2 h3 e8) (wA_l q1442) q1443 (wA_l q1444) q76 q1445 hy_93 ⟨Nat.le_of_ble_eq_true rfl, Nat.le_of_ble_eq_true rfl⟩ rfl rfl (Nat.le_of_ble_eq_true rfl) dX2_finish_30 rfl (kS ?_) kN
    refine v_istore (pc' := 35) (lv' := [(4, .int r6), (3, .int (0 : Int32)), (0, .ref x0), (1, .int x1), (2, .ref x2)]) hc_X2_finish dX2_finish_33 rfl (Nat.le_of_ble_eq_true rfl) rfl ?_
    refine v_pick [2, 3, 4, 1, 0] rfl ?_
    exact w_X2_finish_l35 D l hl as h0 NN x0 x1 x2 (0 : Int32) r6 h7 e
  · refine k_SN (pc' := 26) (x := ⟨"BlockPapers", "allow", "(ZII)V"⟩) (n := 3) hc_X2_finish ho_X2_finish (w_X1_allow D l hl s0 (4 : Int32) v1 h e4) q1090 q1091 q75 q1092 hy_44 ⟨Nat.le_of_ble_eq_true rfl, Nat.le_of_ble_eq_true rfl⟩ rfl rfl (Nat.le_of_ble_eq_true rfl) dX2_finish_23 rfl kM (kX ?_)
    exact v_outA (hp_X2_finish _) rfl rfl e
def f_X2_finish (x0 : Nat) (x1 : Int32) (h : AH) : Option ((Int32 ⊕ Nat) × AH) :=
  gd (isC h 1 x0) <|
  bdX (f_X2_room x0 x1 h) (fun zq9 h3 =>
    outX h3 zq9
  ) fun r2 h3 =>
  gd (isC h3 4 r2) <|
  bd2 (f_X5_isFull r2 h3) fun r6 h7 =>
  if r6 = 0 then (
    f_X2_finish_j18 x0 x1 r2 (1 : Int32) h7
  ) else (
    f_X2_finish_j18 x0 x1 r2 (0 : Int32) h7
  )
theorem v_X2_finish (D : va_G) (l : Launch) (hl : l.stackTraces = false) (as : List Value) (h0 : AH) {r : (Int32 ⊕ Nat)} {hF : AH} (x0 : Nat) (x1 : Int32) (h : AH) (e : f_X2_finish x0 x1 h = some (r, hF)) : V (G_X2_finish D l as h0 hF ((oX oI) r)) h 0 [(0, .ref x0), (1, .int x1)] [] := by
  unfold f_X2_finish at e
  refine v_aload_n (pc' := 1) hc_X2_finish dX2_finish_0 rfl rfl 0 rfl ?_
  refine v_iload_n (pc' := 2) hc_X2_finish dX2_finish_1 rfl rfl 1 rfl ?_
  obtain ⟨c1, e⟩ := gd_of e
  rcases bdX_of e with ⟨r2, h3, e4, e⟩ | ⟨zq9, h3, e4, e⟩
  · refine k_V (pc' := 5) (ci := 1) (n := 1) hc_X2_finish ho_X2_finish rfl c1 (w_X2_room D l hl x0 x1 h e4) (wA_l q1310) q1311 (wA_l q1312) q76 q1313 hy_69 ⟨Nat.le_of_ble_eq_true rfl, Nat.le_of_ble_eq_true rfl⟩ rfl rfl (Nat.le_of_ble_eq_true rfl) dX2_finish_2 rfl (kS ?_) kN
    refine v_astore_n (pc' := 6) (lv' := [(2, .ref r2), (0, .ref x0), (1, .int x1)]) hc_X2_finish dX2_finish_5 rfl rfl (Nat.le_of_ble_eq_true rfl) rfl ?_
    refine v_aload_n (pc' := 7) hc_X2_finish dX2_finish_6 rfl rfl 0 rfl ?_
    obtain ⟨c5, e⟩ := gd_of e
    obtain ⟨r6, h7, e8, e⟩ := bd2_of e
    refine k_V (pc' := 10) (ci := 4) (n := 0) hc_X2_finish ho_X2_finish rfl c5 (w_X5_isFull D l hl r2 h3 e8) (wA_l q545) q546 (wA_l q547) q99 q548 hy_72 ⟨Nat.le_of_ble_eq_true rfl, Nat.le_of_ble_eq_true rfl⟩ rfl rfl (Nat.le_of_ble_eq_true rfl) dX2_finish_7 rfl (kS ?_) kN
    refine v_if_ne (pt := 17) (pf := 13) hc_X2_finish dX2_finish_10 rfl rfl e (fun _ e => ?_) (fun _ e => ?_)
    · refine v_iconst (pc' := 14) (v := 1) hc_X2_finish dX2_finish_13 rfl rfl ?_
      refine v_goto (pt := 18) hc_X2_finish dX2_finish_14 rfl ?_
      refine v_pick [1, 2, 0] rfl ?_
      exact w_X2_finish_j18 D l hl as h0 x0 x1 r2 (1 : Int32) h7 e
    · refine v_iconst (pc' := 18) (v := 0) hc_X2_finish dX2_finish_17 rfl rfl ?_
      refine v_pick [1, 2, 0] rfl ?_
      exact w_X2_finish_j18 D l hl as h0 x0 x1 r2 (0 : Int32) h7 e
  · refine k_V (pc' := 5) (ci := 1) (n := 1) hc_X2_finish ho_X2_finish rfl c1 (w_X2_room D l hl x0 x1 h e4) (wA_l q1310) q1311 (wA_l q1312) q76 q1313 hy_69 ⟨Nat.le_of_ble_eq_true rfl, Nat.le_of_ble_eq_true rfl⟩ rfl rfl (Nat.le_of_ble_eq_true rfl) dX2_finish_2 rfl kM (kX ?_)
    exact v_outA (hp_X2_finish _) rfl rfl e
theorem w_X2_finish (D : va_G) (l : Launch) (hl : l.stackTraces = false) (x0 : Nat) (x1 : Int32) (h : AH) {r : (Int32 ⊕ Nat)} {hF : AH} (e : f_X2_finish x0 x1 h = some (r, hF)) : MetV D l yX2_finish (Cond.code yX2_finish cX2_finish 6 (Option.some .int)) 9 226 [.ref x0, .int x1] h hF ((oX oI) r) :=
  met_ofF (by decide +kernel) hl (Nat.le_of_ble_eq_true rfl) rfl (v_X2_finish D l hl [.ref x0, .int x1] h x0 x1 h e)
/-! BlockPapers$Named.done(LBlockPapers$Workshop;)I  -/
abbrev G_X4_done (D : va_G) (l : Launch) (as : List Value) (h0 hF : AH) (o : Out) : CT := (D, l, (yX4_done.cls, yX4_done, cX4_done, 4, (Option.some .int), 10, 251, []), as, h0, hF, o)
theorem hc_X4_done {D : va_G} {l : Launch} {as : List Value} {h0 hF : AH} {o : Out} : gC (G_X4_done D l as h0 hF o) = cX4_done := rfl
theorem ho_X4_done {D : va_G} {l : Launch} {as : List Value} {h0 hF : AH} {o : Out} : gO (G_X4_done D l as h0 hF o) = "BlockPapers$Named" := rfl
theorem hp_X4_done {D : va_G} {l : Launch} {as : List Value} {h0 hF : AH} {o : Out} (pc : Nat) : ∀ z ∈ tableOf (gHd (G_X4_done D l as h0 hF o)), covers z pc = false := hpN
def f_X4_done_j218 (x0 : Nat) (x1 : Nat) (x3 : Int32) (h : AH) : Option ((Int32 ⊕ Nat) × AH) :=
  if x3 = 0 then (
    bd (gtI h 3 x0 1) fun v1 =>
    bd (gtI h 3 x0 2) fun v2 =>
    if v2 = (1 : Int32) then (
      gd (isC h 1 x1) <|
      bdX (f_X2_addBlock x1 v1 (1 : Int32) h) (fun zq7 h5 =>
        outX h5 zq7
      ) fun r4 h5 =>
      some (.inl r4, h5)
    ) else (
      gd (isC h 1 x1) <|
      bdX (f_X2_addBlock x1 v1 (0 : Int32) h) (fun zq12 h10 =>
        outX h10 zq12
      ) fun r9 h10 =>
      some (.inl r9, h10)
    )
  ) else (
  if x3 = 1 then (
    bd (gtI h 3 x0 1) fun v14 =>
    gd (isC h 1 x1) <|
    bdX (f_X2_carve x1 v14 h) (fun zq19 h17 =>
      outX h17 zq19
    ) fun r16 h17 =>
    some (.inl r16, h17)
  ) else (
  if x3 = 2 then (
    bd (gtI h 3 x0 1) fun v21 =>
    bd (gtI h 3 x0 2) fun v22 =>
    bd (gtI h 3 x0 3) fun v23 =>
    gd (isC h 1 x1) <|
    bdX (f_X2_addInk x1 v21 v22 v23 h) (fun zq28 h26 =>
      outX h26 zq28
    ) fun r25 h26 =>
    some (.inl r25, h26)
  ) else (
  if x3 = 3 then (
    bd (gtI h 3 x0 1) fun v30 =>
    bd (gtI h 3 x0 2) fun v31 =>
    bd (gtI h 3 x0 3) fun v32 =>
    gd (isC h 1 x1) <|
    bdX (f_X2_mix x1 v30 v31 v32 h) (fun zq37 h35 =>
      outX h35 zq37
    ) fun r34 h35 =>
    some (.inl r34, h35)
  ) else (
  if x3 = 4 then (
    bd (gtI h 3 x0 1) fun v39 =>
    bd (gtI h 3 x0 2) fun v40 =>
    bd (gtI h 3 x0 3) fun v41 =>
    gd (isC h 1 x1) <|
    bdX (f_X2_print x1 v39 v40 v41 h) (fun zq46 h44 =>
      outX h44 zq46
    ) fun r43 h44 =>
    some (.inl r43, h44)
  ) else (
  if x3 = 5 then (
    bd (gtI h 3 x0 1) fun v48 =>
    gd (isC h 1 x1) <|
    bdX (f_X2_giveBack x1 v48 h) (fun zq53 h51 =>
      outX h51 zq53
    ) fun r50 h51 =>
    some (.inl r50, h51)
  ) else (
  if x3 = 6 then (
    bd (gtI h 3 x0 1) fun v55 =>
    bd (gtI h 3 x0 2) fun v56 =>
    gd (isC h 1 x1) <|
    bdX (f_X2_addRoom x1 v55 v56 h) (fun zq61 h59 =>
      outX h59 zq61
    ) fun r58 h59 =>
    some (.inl r58, h59)
  ) else (
  if x3 = 7 then (
    bd (gtI h 3 x0 1) fun v63 =>
    bd (gtI h 3 x0 2) fun v64 =>
    gd (isC h 1 x1) <|
    bdX (f_X2_hang x1 v63 v64 h) (fun zq69 h67 =>
      outX h67 zq69
    ) fun r66 h67 =>
    some (.inl r66, h67)
  ) else (
  if x3 = 8 then (
    bd (gtI h 3 x0 1) fun v71 =>
    gd (isC h 1 x1) <|
    bdX (f_X2_strip x1 v71 h) (fun zq76 h74 =>
      outX h74 zq76
    ) fun r73 h74 =>
    some (.inl r73, h74)
  ) else (
  bd (gtI h 3 x0 1) fun v78 =>
  gd (isC h 1 x1) <|
  bdX (f_X2_finish x1 v78 h) (fun zq83 h81 =>
    outX h81 zq83
  ) fun r80 h81 =>
  some (.inl r80, h81)
  )))))))))
theorem w_X4_done_j218 (D : va_G) (l : Launch) (hl : l.stackTraces = false) (as : List Value) (h0 : AH) {r : (Int32 ⊕ Nat)} {hF : AH} (x0 : Nat) (x1 : Nat) (x3 : Int32) (h : AH) (e : f_X4_done_j218 x0 x1 x3 h = some (r, hF)) : V (G_X4_done D l as h0 hF ((oX oI) r)) h 218 [(0, .ref x0), (1, .ref x1), (3, .int x3)] [] := by
  unfold f_X4_done_j218 at e
  refine v_iload_n (pc' := 219) hc_X4_done dX4_done_218 rfl rfl 2 rfl ?_
  rcases ite_cs e with ⟨n13, e⟩ | ⟨n13, e⟩
  · refine v_tbl (off := 49) (pt := 268) hc_X4_done dX4_done_219 rfl rfl (by rw [n13]; rfl) rfl ?_
    refine v_aload_n (pc' := 269) hc_X4_done dX4_done_268 rfl rfl 1 rfl ?_
    refine v_aload_n (pc' := 270) hc_X4_done dX4_done_269 rfl rfl 0 rfl ?_
    refine v_gfI (pc' := 273) hc_X4_done ho_X4_done KX4 1 (Nat.le_of_ble_eq_true rfl) q940 (Or.inl rfl) dX4_done_270 rfl e (fun v1 _ e => ?_)
    refine v_aload_n (pc' := 274) hc_X4_done dX4_done_273 rfl rfl 0 rfl ?_
    refine v_gfI (pc' := 277) hc_X4_done ho_X4_done KX4 2 (Nat.le_of_ble_eq_true rfl) q941 (Or.inl rfl) dX4_done_274 rfl e (fun v2 _ e => ?_)
    refine v_iconst (pc' := 278) (v := 1) hc_X4_done dX4_done_277 rfl rfl ?_
    refine v_icmp_ne (pt := 285) (pf := 281) hc_X4_done dX4_done_278 rfl rfl e (fun _ e => ?_) (fun _ e => ?_)
    · refine v_iconst (pc' := 282) (v := 1) hc_X4_done dX4_done_281 rfl rfl ?_
      refine v_goto (pt := 286) hc_X4_done dX4_done_282 rfl ?_
      obtain ⟨c3, e⟩ := gd_of e
      rcases bdX_of e with ⟨r4, h5, e6, e⟩ | ⟨zq7, h5, e6, e⟩
      · refine k_V (pc' := 289) (ci := 1) (n := 2) hc_X4_done ho_X4_done rfl c3 (w_X2_addBlock D l hl x1 v1 (1 : Int32) h e6) (wA_l q1084) q1085 (wA_l q1086) q76 q1087 hy_47 ⟨Nat.le_of_ble_eq_true rfl, Nat.le_of_ble_eq_true rfl⟩ rfl rfl (Nat.le_of_ble_eq_true rfl) dX4_done_286 rfl (kS ?_) kN
        refine v_goto (pt := 420) hc_X4_done dX4_done_289 rfl ?_
        obtain ⟨rfl, rfl⟩ := ret_of e
        exact v_iret hc_X4_done rfl dX4_done_420 rfl rfl
      · refine k_V (pc' := 289) (ci := 1) (n := 2) hc_X4_done ho_X4_done rfl c3 (w_X2_addBlock D l hl x1 v1 (1 : Int32) h e6) (wA_l q1084) q1085 (wA_l q1086) q76 q1087 hy_47 ⟨Nat.le_of_ble_eq_true rfl, Nat.le_of_ble_eq_true rfl⟩ rfl rfl (Nat.le_of_ble_eq_true rfl) dX4_done_286 rfl kM (kX ?_)
        exact v_outA (hp_X4_done _) rfl rfl e
    · refine v_iconst (pc' := 286) (v := 0) hc_X4_done dX4_done_285 rfl rfl ?_
      obtain ⟨c8, e⟩ := gd_of e
      rcases bdX_of e with ⟨r9, h10, e11, e⟩ | ⟨zq12, h10, e11, e⟩
      · refine k_V (pc' := 289) (ci := 1) (n := 2) hc_X4_done ho_X4_done rfl c8 (w_X2_addBlock D l hl x1 v1 (0 : Int32) h e11) (wA_l q1084) q1085 (wA_l q1086) q76 q1087 hy_47 ⟨Nat.le_of_ble_eq_true rfl, Nat.le_of_ble_eq_true rfl⟩ rfl rfl (Nat.le_of_ble_eq_true rfl) dX4_done_286 rfl (kS ?_) kN
        refine v_goto (pt := 420) hc_X4_done dX4_done_289 rfl ?_
        obtain ⟨rfl, rfl⟩ := ret_of e
        exact v_iret hc_X4_done rfl dX4_done_420 rfl rfl
      · refine k_V (pc' := 289) (ci := 1) (n := 2) hc_X4_done ho_X4_done rfl c8 (w_X2_addBlock D l hl x1 v1 (0 : Int32) h e11) (wA_l q1084) q1085 (wA_l q1086) q76 q1087 hy_47 ⟨Nat.le_of_ble_eq_true rfl, Nat.le_of_ble_eq_true rfl⟩ rfl rfl (Nat.le_of_ble_eq_true rfl) dX4_done_286 rfl kM (kX ?_)
        exact v_outA (hp_X4_done _) rfl rfl e
  rcases ite_cs e with ⟨n20, e⟩ | ⟨n20, e⟩
  · refine v_tbl (off := 73) (pt := 292) hc_X4_done dX4_done_219 rfl rfl (by rw [n20]; rfl) rfl ?_
    refine v_aload_n (pc' := 293) hc_X4_done dX4_done_292 rfl rfl 1 rfl ?_
    refine v_aload_n (pc' := 294) hc_X4_done dX4_done_293 rfl rfl 0 rfl ?_
    refine v_gfI (pc' := 297) hc_X4_done ho_X4_done KX4 1 (Nat.le_of_ble_eq_true rfl) q940 (Or.inl rfl) dX4_done_294 rfl e (fun v14 _ e => ?_)
    obtain ⟨c15, e⟩ := gd_of e
    rcases bdX_of e with ⟨r16, h17, e18, e⟩ | ⟨zq19, h17, e18, e⟩
    · refine k_V (pc' := 300) (ci := 1) (n := 1) hc_X4_done ho_X4_done rfl c15 (w_X2_carve D l hl x1 v14 h e18) (wA_l q1143) q1144 (wA_l q1145) q76 q1146 hy_52 ⟨Nat.le_of_ble_eq_true rfl, Nat.le_of_ble_eq_true rfl⟩ rfl rfl (Nat.le_of_ble_eq_true rfl) dX4_done_297 rfl (kS ?_) kN
      refine v_goto (pt := 420) hc_X4_done dX4_done_300 rfl ?_
      obtain ⟨rfl, rfl⟩ := ret_of e
      exact v_iret hc_X4_done rfl dX4_done_420 rfl rfl
    · refine k_V (pc' := 300) (ci := 1) (n := 1) hc_X4_done ho_X4_done rfl c15 (w_X2_carve D l hl x1 v14 h e18) (wA_l q1143) q1144 (wA_l q1145) q76 q1146 hy_52 ⟨Nat.le_of_ble_eq_true rfl, Nat.le_of_ble_eq_true rfl⟩ rfl rfl (Nat.le_of_ble_eq_true rfl) dX4_done_297 rfl kM (kX ?_)
      exact v_outA (hp_X4_done _) rfl rfl e
  rcases ite_cs e with ⟨n29, e⟩ | ⟨n29, e⟩
  · refine v_tbl (off := 84) (pt := 303) hc_X4_done dX4_done_219 rfl rfl (by rw [n29]; rfl) rfl ?_
    refine v_aload_n (pc' := 304) hc_X4_done dX4_done_303 rfl rfl 1 rfl ?_
    refine v_aload_n (pc' := 305) hc_X4_done dX4_done_304 rfl rfl 0 rfl ?_
    refine v_gfI (pc' := 308) hc_X4_done ho_X4_done KX4 1 (Nat.le_of_ble_eq_true rfl) q940 (Or.inl rfl) dX4_done_305 rfl e (fun v21 _ e => ?_)
    refine v_aload_n (pc' := 309) hc_X4_done dX4_done_308 rfl rfl 0 rfl ?_
    refine v_gfI (pc' := 312) hc_X4_done ho_X4_done KX4 2 (Nat.le_of_ble_eq_true rfl) q941 (Or.inl rfl) dX4_done_309 rfl e (fun v22 _ e => ?_)
    refine v_aload_n (pc' := 313) hc_X4_done dX4_done_312 rfl rfl 0 rfl ?_
    refine v_gfI (pc' := 316) hc_X4_done ho_X4_done KX4 3 (Nat.le_of_ble_eq_true rfl) q942 (Or.inl rfl) dX4_done_313 rfl e (fun v23 _ e => ?_)
    obtain ⟨c24, e⟩ := gd_of e
    rcases bdX_of e with ⟨r25, h26, e27, e⟩ | ⟨zq28, h26, e27, e⟩
    · refine k_V (pc' := 319) (ci := 1) (n := 3) hc_X4_done ho_X4_done rfl c24 (w_X2_addInk D l hl x1 v21 v22 v23 h e27) (wA_l q1183) q1184 (wA_l q1185) q76 q1186 hy_54 ⟨Nat.le_of_ble_eq_true rfl, Nat.le_of_ble_eq_true rfl⟩ rfl rfl (Nat.le_of_ble_eq_true rfl) dX4_done_316 rfl (kS ?_) kN
      refine v_goto (pt := 420) hc_X4_done dX4_done_319 rfl ?_
      obtain ⟨rfl, rfl⟩ := ret_of e
      exact v_iret hc_X4_done rfl dX4_done_420 rfl rfl
    · refine k_V (pc' := 319) (ci := 1) (n := 3) hc_X4_done ho_X4_done rfl c24 (w_X2_addInk D l hl x1 v21 v22 v23 h e27) (wA_l q1183) q1184 (wA_l q1185) q76 q1186 hy_54 ⟨Nat.le_of_ble_eq_true rfl, Nat.le_of_ble_eq_true rfl⟩ rfl rfl (Nat.le_of_ble_eq_true rfl) dX4_done_316 rfl kM (kX ?_)
      exact v_outA (hp_X4_done _) rfl rfl e
  rcases ite_cs e with ⟨n38, e⟩ | ⟨n38, e⟩
  · refine v_tbl (off := 103) (pt := 322) hc_X4_done dX4_done_219 rfl rfl (by rw [n38]; rfl) rfl ?_
    refine v_aload_n (pc' := 323) hc_X4_done dX4_done_322 rfl rfl 1 rfl ?_
    refine v_aload_n (pc' := 324) hc_X4_done dX4_done_323 rfl rfl 0 rfl ?_
    refine v_gfI (pc' := 327) hc_X4_done ho_X4_done KX4 1 (Nat.le_of_ble_eq_true rfl) q940 (Or.inl rfl) dX4_done_324 rfl e (fun v30 _ e => ?_)
    refine v_aload_n (pc' := 328) hc_X4_done dX4_done_327 rfl rfl 0 rfl ?_
    refine v_gfI (pc' := 331) hc_X4_done ho_X4_done KX4 2 (Nat.le_of_ble_eq_true rfl) q941 (Or.inl rfl) dX4_done_328 rfl e (fun v31 _ e => ?_)
    refine v_aload_n (pc' := 332) hc_X4_done dX4_done_331 rfl rfl 0 rfl ?_
    refine v_gfI (pc' := 335) hc_X4_done ho_X4_done KX4 3 (Nat.le_of_ble_eq_true rfl) q942 (Or.inl rfl) dX4_done_332 rfl e (fun v32 _ e => ?_)
    obtain ⟨c33, e⟩ := gd_of e
    rcases bdX_of e with ⟨r34, h35, e36, e⟩ | ⟨zq37, h35, e36, e⟩
    · refine k_V (pc' := 338) (ci := 1) (n := 3) hc_X4_done ho_X4_done rfl c33 (w_X2_mix D l hl x1 v30 v31 v32 h e36) (wA_l q1209) q1210 (wA_l q1211) q76 q1212 hy_58 ⟨Nat.le_of_ble_eq_true rfl, Nat.le_of_ble_eq_true rfl⟩ rfl rfl (Nat.le_of_ble_eq_true rfl) dX4_done_335 rfl (kS ?_) kN
      refine v_goto (pt := 420) hc_X4_done dX4_done_338 rfl ?_
      obtain ⟨rfl, rfl⟩ := ret_of e
      exact v_iret hc_X4_done rfl dX4_done_420 rfl rfl
    · refine k_V (pc' := 338) (ci := 1) (n := 3) hc_X4_done ho_X4_done rfl c33 (w_X2_mix D l hl x1 v30 v31 v32 h e36) (wA_l q1209) q1210 (wA_l q1211) q76 q1212 hy_58 ⟨Nat.le_of_ble_eq_true rfl, Nat.le_of_ble_eq_true rfl⟩ rfl rfl (Nat.le_of_ble_eq_true rfl) dX4_done_335 rfl kM (kX ?_)
      exact v_outA (hp_X4_done _) rfl rfl e
  rcases ite_cs e with ⟨n47, e⟩ | ⟨n47, e⟩
  · refine v_tbl (off := 122) (pt := 341) hc_X4_done dX4_done_219 rfl rfl (by rw [n47]; rfl) rfl ?_
    refine v_aload_n (pc' := 342) hc_X4_done dX4_done_341 rfl rfl 1 rfl ?_
    refine v_aload_n (pc' := 343) hc_X4_done dX4_done_342 rfl rfl 0 rfl ?_
    refine v_gfI (pc' := 346) hc_X4_done ho_X4_done KX4 1 (Nat.le_of_ble_eq_true rfl) q940 (Or.inl rfl) dX4_done_343 rfl e (fun v39 _ e => ?_)
    refine v_aload_n (pc' := 347) hc_X4_done dX4_done_346 rfl rfl 0 rfl ?_
    refine v_gfI (pc' := 350) hc_X4_done ho_X4_done KX4 2 (Nat.le_of_ble_eq_true rfl) q941 (Or.inl rfl) dX4_done_347 rfl e (fun v40 _ e => ?_)
    refine v_aload_n (pc' := 351) hc_X4_done dX4_done_350 rfl rfl 0 rfl ?_
    refine v_gfI (pc' := 354) hc_X4_done ho_X4_done KX4 3 (Nat.le_of_ble_eq_true rfl) q942 (Or.inl rfl) dX4_done_351 rfl e (fun v41 _ e => ?_)
    obtain ⟨c42, e⟩ := gd_of e
    rcases bdX_of e with ⟨r43, h44, e45, e⟩ | ⟨zq46, h44, e45, e⟩
    · refine k_V (pc' := 357) (ci := 1) (n := 3) hc_X4_done ho_X4_done rfl c42 (w_X2_print D l hl x1 v39 v40 v41 h e45) (wA_l q1228) q1229 (wA_l q1230) q76 q1231 hy_62 ⟨Nat.le_of_ble_eq_true rfl, Nat.le_of_ble_eq_true rfl⟩ rfl rfl (Nat.le_of_ble_eq_true rfl) dX4_done_354 rfl (kS ?_) kN
      refine v_goto (pt := 420) hc_X4_done dX4_done_357 rfl ?_
      obtain ⟨rfl, rfl⟩ := ret_of e
      exact v_iret hc_X4_done rfl dX4_done_420 rfl rfl
    · refine k_V (pc' := 357) (ci := 1) (n := 3) hc_X4_done ho_X4_done rfl c42 (w_X2_print D l hl x1 v39 v40 v41 h e45) (wA_l q1228) q1229 (wA_l q1230) q76 q1231 hy_62 ⟨Nat.le_of_ble_eq_true rfl, Nat.le_of_ble_eq_true rfl⟩ rfl rfl (Nat.le_of_ble_eq_true rfl) dX4_done_354 rfl kM (kX ?_)
      exact v_outA (hp_X4_done _) rfl rfl e
  rcases ite_cs e with ⟨n54, e⟩ | ⟨n54, e⟩
  · refine v_tbl (off := 141) (pt := 360) hc_X4_done dX4_done_219 rfl rfl (by rw [n54]; rfl) rfl ?_
    refine v_aload_n (pc' := 361) hc_X4_done dX4_done_360 rfl rfl 1 rfl ?_
    refine v_aload_n (pc' := 362) hc_X4_done dX4_done_361 rfl rfl 0 rfl ?_
    refine v_gfI (pc' := 365) hc_X4_done ho_X4_done KX4 1 (Nat.le_of_ble_eq_true rfl) q940 (Or.inl rfl) dX4_done_362 rfl e (fun v48 _ e => ?_)
    obtain ⟨c49, e⟩ := gd_of e
    rcases bdX_of e with ⟨r50, h51, e52, e⟩ | ⟨zq53, h51, e52, e⟩
    · refine k_V (pc' := 368) (ci := 1) (n := 1) hc_X4_done ho_X4_done rfl c49 (w_X2_giveBack D l hl x1 v48 h e52) (wA_l q1281) q1282 (wA_l q1283) q76 q1284 hy_67 ⟨Nat.le_of_ble_eq_true rfl, Nat.le_of_ble_eq_true rfl⟩ rfl rfl (Nat.le_of_ble_eq_true rfl) dX4_done_365 rfl (kS ?_) kN
      refine v_goto (pt := 420) hc_X4_done dX4_done_368 rfl ?_
      obtain ⟨rfl, rfl⟩ := ret_of e
      exact v_iret hc_X4_done rfl dX4_done_420 rfl rfl
    · refine k_V (pc' := 368) (ci := 1) (n := 1) hc_X4_done ho_X4_done rfl c49 (w_X2_giveBack D l hl x1 v48 h e52) (wA_l q1281) q1282 (wA_l q1283) q76 q1284 hy_67 ⟨Nat.le_of_ble_eq_true rfl, Nat.le_of_ble_eq_true rfl⟩ rfl rfl (Nat.le_of_ble_eq_true rfl) dX4_done_365 rfl kM (kX ?_)
      exact v_outA (hp_X4_done _) rfl rfl e
  rcases ite_cs e with ⟨n62, e⟩ | ⟨n62, e⟩
  · refine v_tbl (off := 152) (pt := 371) hc_X4_done dX4_done_219 rfl rfl (by rw [n62]; rfl) rfl ?_
    refine v_aload_n (pc' := 372) hc_X4_done dX4_done_371 rfl rfl 1 rfl ?_
    refine v_aload_n (pc' := 373) hc_X4_done dX4_done_372 rfl rfl 0 rfl ?_
    refine v_gfI (pc' := 376) hc_X4_done ho_X4_done KX4 1 (Nat.le_of_ble_eq_true rfl) q940 (Or.inl rfl) dX4_done_373 rfl e (fun v55 _ e => ?_)
    refine v_aload_n (pc' := 377) hc_X4_done dX4_done_376 rfl rfl 0 rfl ?_
    refine v_gfI (pc' := 380) hc_X4_done ho_X4_done KX4 2 (Nat.le_of_ble_eq_true rfl) q941 (Or.inl rfl) dX4_done_377 rfl e (fun v56 _ e => ?_)
    obtain ⟨c57, e⟩ := gd_of e
    rcases bdX_of e with ⟨r58, h59, e60, e⟩ | ⟨zq61, h59, e60, e⟩
    · refine k_V (pc' := 383) (ci := 1) (n := 2) hc_X4_done ho_X4_done rfl c57 (w_X2_addRoom D l hl x1 v55 v56 h e60) (wA_l q1301) q1302 (wA_l q1303) q76 q1304 hy_68 ⟨Nat.le_of_ble_eq_true rfl, Nat.le_of_ble_eq_true rfl⟩ rfl rfl (Nat.le_of_ble_eq_true rfl) dX4_done_380 rfl (kS ?_) kN
      refine v_goto (pt := 420) hc_X4_done dX4_done_383 rfl ?_
      obtain ⟨rfl, rfl⟩ := ret_of e
      exact v_iret hc_X4_done rfl dX4_done_420 rfl rfl
    · refine k_V (pc' := 383) (ci := 1) (n := 2) hc_X4_done ho_X4_done rfl c57 (w_X2_addRoom D l hl x1 v55 v56 h e60) (wA_l q1301) q1302 (wA_l q1303) q76 q1304 hy_68 ⟨Nat.le_of_ble_eq_true rfl, Nat.le_of_ble_eq_true rfl⟩ rfl rfl (Nat.le_of_ble_eq_true rfl) dX4_done_380 rfl kM (kX ?_)
      exact v_outA (hp_X4_done _) rfl rfl e
  rcases ite_cs e with ⟨n70, e⟩ | ⟨n70, e⟩
  · refine v_tbl (off := 167) (pt := 386) hc_X4_done dX4_done_219 rfl rfl (by rw [n70]; rfl) rfl ?_
    refine v_aload_n (pc' := 387) hc_X4_done dX4_done_386 rfl rfl 1 rfl ?_
    refine v_aload_n (pc' := 388) hc_X4_done dX4_done_387 rfl rfl 0 rfl ?_
    refine v_gfI (pc' := 391) hc_X4_done ho_X4_done KX4 1 (Nat.le_of_ble_eq_true rfl) q940 (Or.inl rfl) dX4_done_388 rfl e (fun v63 _ e => ?_)
    refine v_aload_n (pc' := 392) hc_X4_done dX4_done_391 rfl rfl 0 rfl ?_
    refine v_gfI (pc' := 395) hc_X4_done ho_X4_done KX4 2 (Nat.le_of_ble_eq_true rfl) q941 (Or.inl rfl) dX4_done_392 rfl e (fun v64 _ e => ?_)
    obtain ⟨c65, e⟩ := gd_of e
    rcases bdX_of e with ⟨r66, h67, e68, e⟩ | ⟨zq69, h67, e68, e⟩
    · refine k_V (pc' := 398) (ci := 1) (n := 2) hc_X4_done ho_X4_done rfl c65 (w_X2_hang D l hl x1 v63 v64 h e68) (wA_l q1306) q1307 (wA_l q1308) q76 q1309 hy_87 ⟨Nat.le_of_ble_eq_true rfl, Nat.le_of_ble_eq_true rfl⟩ rfl rfl (Nat.le_of_ble_eq_true rfl) dX4_done_395 rfl (kS ?_) kN
      refine v_goto (pt := 420) hc_X4_done dX4_done_398 rfl ?_
      obtain ⟨rfl, rfl⟩ := ret_of e
      exact v_iret hc_X4_done rfl dX4_done_420 rfl rfl
    · refine k_V (pc' := 398) (ci := 1) (n := 2) hc_X4_done ho_X4_done rfl c65 (w_X2_hang D l hl x1 v63 v64 h e68) (wA_l q1306) q1307 (wA_l q1308) q76 q1309 hy_87 ⟨Nat.le_of_ble_eq_true rfl, Nat.le_of_ble_eq_true rfl⟩ rfl rfl (Nat.le_of_ble_eq_true rfl) dX4_done_395 rfl kM (kX ?_)
      exact v_outA (hp_X4_done _) rfl rfl e
  rcases ite_cs e with ⟨n77, e⟩ | ⟨n77, e⟩
  · refine v_tbl (off := 182) (pt := 401) hc_X4_done dX4_done_219 rfl rfl (by rw [n77]; rfl) rfl ?_
    refine v_aload_n (pc' := 402) hc_X4_done dX4_done_401 rfl rfl 1 rfl ?_
    refine v_aload_n (pc' := 403) hc_X4_done dX4_done_402 rfl rfl 0 rfl ?_
    refine v_gfI (pc' := 406) hc_X4_done ho_X4_done KX4 1 (Nat.le_of_ble_eq_true rfl) q940 (Or.inl rfl) dX4_done_403 rfl e (fun v71 _ e => ?_)
    obtain ⟨c72, e⟩ := gd_of e
    rcases bdX_of e with ⟨r73, h74, e75, e⟩ | ⟨zq76, h74, e75, e⟩
    · refine k_V (pc' := 409) (ci := 1) (n := 1) hc_X4_done ho_X4_done rfl c72 (w_X2_strip D l hl x1 v71 h e75) (wA_l q1421) q1422 (wA_l q1423) q76 q1424 hy_90 ⟨Nat.le_of_ble_eq_true rfl, Nat.le_of_ble_eq_true rfl⟩ rfl rfl (Nat.le_of_ble_eq_true rfl) dX4_done_406 rfl (kS ?_) kN
      refine v_goto (pt := 420) hc_X4_done dX4_done_409 rfl ?_
      obtain ⟨rfl, rfl⟩ := ret_of e
      exact v_iret hc_X4_done rfl dX4_done_420 rfl rfl
    · refine k_V (pc' := 409) (ci := 1) (n := 1) hc_X4_done ho_X4_done rfl c72 (w_X2_strip D l hl x1 v71 h e75) (wA_l q1421) q1422 (wA_l q1423) q76 q1424 hy_90 ⟨Nat.le_of_ble_eq_true rfl, Nat.le_of_ble_eq_true rfl⟩ rfl rfl (Nat.le_of_ble_eq_true rfl) dX4_done_406 rfl kM (kX ?_)
      exact v_outA (hp_X4_done _) rfl rfl e
  refine v_tbl (off := 193) (pt := 412) hc_X4_done dX4_done_219 rfl rfl (lk_c (lk_n n13 rfl) (lk_c (lk_n n20 rfl) (lk_c (lk_n n29 rfl) (lk_c (lk_n n38 rfl) (lk_c (lk_n n47 rfl) (lk_c (lk_n n54 rfl) (lk_c (lk_n n62 rfl) (lk_c (lk_n n70 rfl) (lk_c (lk_n n77 rfl) lk_z))))))))) rfl ?_
  refine v_aload_n (pc' := 413) hc_X4_done dX4_done_412 rfl rfl 1 rfl ?_
  refine v_aload_n (pc' := 414) hc_X4_done dX4_done_413 rfl rfl 0 rfl ?_
  refine v_gfI (pc' := 417) hc_X4_done ho_X4_done KX4 1 (Nat.le_of_ble_eq_true rfl) q940 (Or.inl rfl) dX4_done_414 rfl e (fun v78 _ e => ?_)
  obtain ⟨c79, e⟩ := gd_of e
  rcases bdX_of e with ⟨r80, h81, e82, e⟩ | ⟨zq83, h81, e82, e⟩
  · refine k_V (pc' := 420) (ci := 1) (n := 1) hc_X4_done ho_X4_done rfl c79 (w_X2_finish D l hl x1 v78 h e82) (wA_l q1438) q1439 (wA_l q1440) q76 q1441 hy_94 ⟨Nat.le_of_ble_eq_true rfl, Nat.le_of_ble_eq_true rfl⟩ rfl rfl (Nat.le_of_ble_eq_true rfl) dX4_done_417 rfl (kS ?_) kN
    obtain ⟨rfl, rfl⟩ := ret_of e
    exact v_iret hc_X4_done rfl dX4_done_420 rfl rfl
  · refine k_V (pc' := 420) (ci := 1) (n := 1) hc_X4_done ho_X4_done rfl c79 (w_X2_finish D l hl x1 v78 h e82) (wA_l q1438) q1439 (wA_l q1440) q76 q1441 hy_94 ⟨Nat.le_of_ble_eq_true rfl, Nat.le_of_ble_eq_true rfl⟩ rfl rfl (Nat.le_of_ble_eq_true rfl) dX4_done_417 rfl kM (kX ?_)
    exact v_outA (hp_X4_done _) rfl rfl e
def f_X4_done (x0 : Nat) (x1 : Nat) (h : AH) : Option ((Int32 ⊕ Nat) × AH) :=
  bd (gtR h 3 x0 0) fun v1 =>
  gd (isC h 19 v1) <|
  bd2 (f_J6_hashCode v1 h) fun r3 h4 =>
  if r3 = 104422 then (
    bd (aE h4 103) fun v6 =>
    gd (isC h4 19 v1) <|
    bd2 (f_J6_equals v1 v6 h4) fun r8 h9 =>
    if r8 = 0 then (
      f_X4_done_j218 x0 x1 (-1 : Int32) h9
    ) else (
      f_X4_done_j218 x0 x1 (2 : Int32) h9
    )
  ) else (
  if r3 = 108124 then (
    bd (aE h4 104) fun v12 =>
    gd (isC h4 19 v1) <|
    bd2 (f_J6_equals v1 v12 h4) fun r14 h15 =>
    if r14 = 0 then (
      f_X4_done_j218 x0 x1 (-1 : Int32) h15
    ) else (
      f_X4_done_j218 x0 x1 (3 : Int32) h15
    )
  ) else (
  if r3 = 3015911 then (
    bd (aE h4 106) fun v18 =>
    gd (isC h4 19 v1) <|
    bd2 (f_J6_equals v1 v18 h4) fun r20 h21 =>
    if r20 = 0 then (
      f_X4_done_j218 x0 x1 (-1 : Int32) h21
    ) else (
      f_X4_done_j218 x0 x1 (5 : Int32) h21
    )
  ) else (
  if r3 = 3194994 then (
    bd (aE h4 108) fun v24 =>
    gd (isC h4 19 v1) <|
    bd2 (f_J6_equals v1 v24 h4) fun r26 h27 =>
    if r26 = 0 then (
      f_X4_done_j218 x0 x1 (-1 : Int32) h27
    ) else (
      f_X4_done_j218 x0 x1 (7 : Int32) h27
    )
  ) else (
  if r3 = 3506395 then (
    bd (aE h4 107) fun v30 =>
    gd (isC h4 19 v1) <|
    bd2 (f_J6_equals v1 v30 h4) fun r32 h33 =>
    if r32 = 0 then (
      f_X4_done_j218 x0 x1 (-1 : Int32) h33
    ) else (
      f_X4_done_j218 x0 x1 (6 : Int32) h33
    )
  ) else (
  if r3 = 93832333 then (
    bd (aE h4 101) fun v36 =>
    gd (isC h4 19 v1) <|
    bd2 (f_J6_equals v1 v36 h4) fun r38 h39 =>
    if r38 = 0 then (
      f_X4_done_j218 x0 x1 (-1 : Int32) h39
    ) else (
      f_X4_done_j218 x0 x1 (0 : Int32) h39
    )
  ) else (
  if r3 = 94431619 then (
    bd (aE h4 102) fun v42 =>
    gd (isC h4 19 v1) <|
    bd2 (f_J6_equals v1 v42 h4) fun r44 h45 =>
    if r44 = 0 then (
      f_X4_done_j218 x0 x1 (-1 : Int32) h45
    ) else (
      f_X4_done_j218 x0 x1 (1 : Int32) h45
    )
  ) else (
  if r3 = 106934957 then (
    bd (aE h4 105) fun v48 =>
    gd (isC h4 19 v1) <|
    bd2 (f_J6_equals v1 v48 h4) fun r50 h51 =>
    if r50 = 0 then (
      f_X4_done_j218 x0 x1 (-1 : Int32) h51
    ) else (
      f_X4_done_j218 x0 x1 (4 : Int32) h51
    )
  ) else (
  if r3 = 109773592 then (
    bd (aE h4 109) fun v54 =>
    gd (isC h4 19 v1) <|
    bd2 (f_J6_equals v1 v54 h4) fun r56 h57 =>
    if r56 = 0 then (
      f_X4_done_j218 x0 x1 (-1 : Int32) h57
    ) else (
      f_X4_done_j218 x0 x1 (8 : Int32) h57
    )
  ) else (
  f_X4_done_j218 x0 x1 (-1 : Int32) h4
  )))))))))
theorem v_X4_done (D : va_G) (l : Launch) (hl : l.stackTraces = false) (as : List Value) (h0 : AH) {r : (Int32 ⊕ Nat)} {hF : AH} (x0 : Nat) (x1 : Nat) (h : AH) (e : f_X4_done x0 x1 h = some (r, hF)) : V (G_X4_done D l as h0 hF ((oX oI) r)) h 0 [(0, .ref x0), (1, .ref x1)] [] := by
  unfold f_X4_done at e
  refine v_aload_n (pc' := 1) hc_X4_done dX4_done_0 rfl rfl 0 rfl ?_
  refine v_gfR (pc' := 4) hc_X4_done ho_X4_done KX4 0 (Nat.le_of_ble_eq_true rfl) q939 (Or.inl rfl) dX4_done_1 rfl e (fun v1 _ e => ?_)
  refine v_astore_n (pc' := 5) (lv' := [(2, .ref v1), (0, .ref x0), (1, .ref x1)]) hc_X4_done dX4_done_4 rfl rfl (Nat.le_of_ble_eq_true rfl) rfl ?_
  refine v_iconst (pc' := 6) (v := (-1)) hc_X4_done dX4_done_5 rfl rfl ?_
  refine v_istore_n (pc' := 7) (lv' := [(3, .int (-1 : Int32)), (2, .ref v1), (0, .ref x0), (1, .ref x1)]) hc_X4_done dX4_done_6 rfl rfl (Nat.le_of_ble_eq_true rfl) rfl ?_
  refine v_aload_n (pc' := 8) hc_X4_done dX4_done_7 rfl rfl 1 rfl ?_
  obtain ⟨c2, e⟩ := gd_of e
  obtain ⟨r3, h4, e5, e⟩ := bd2_of e
  refine k_V (pc' := 11) (ci := 19) (n := 0) hc_X4_done ho_X4_done rfl c2 (w_J6_hashCode D l hl v1 h e5) (wA_l q1006) q1007 (wA_l q1008) q83 q1009 hy_36 ⟨Nat.le_of_ble_eq_true rfl, Nat.le_of_ble_eq_true rfl⟩ rfl rfl (Nat.le_of_ble_eq_true rfl) dX4_done_8 rfl (kS ?_) kN
  rcases ite_cs e with ⟨n11, e⟩ | ⟨n11, e⟩
  · refine v_lookup (off := 109) (pt := 120) hc_X4_done dX4_done_11 (by decide) (by rw [n11]; rfl) rfl ?_
    refine v_aload_n (pc' := 121) hc_X4_done dX4_done_120 rfl rfl 1 rfl ?_
    refine v_ldcS (pc' := 123) (tx := "ink") (j := 103) hc_X4_done ho_X4_done (by decide +kernel) dX4_done_121 rfl e (fun v6 _ e => ?_)
    obtain ⟨c7, e⟩ := gd_of e
    obtain ⟨r8, h9, e10, e⟩ := bd2_of e
    refine k_V (pc' := 126) (ci := 19) (n := 1) hc_X4_done ho_X4_done rfl c7 (w_J6_equals D l hl v1 v6 h4 e10) (wA_l q1068) q1069 (wA_l q1070) q83 q1071 hy_38 ⟨Nat.le_of_ble_eq_true rfl, Nat.le_of_ble_eq_true rfl⟩ rfl rfl (Nat.le_of_ble_eq_true rfl) dX4_done_123 rfl (kS ?_) kN
    refine v_if_eq (pt := 218) (pf := 129) hc_X4_done dX4_done_126 rfl rfl e (fun _ e => ?_) (fun _ e => ?_)
    · refine v_pick [2, 3, 0] rfl ?_
      exact w_X4_done_j218 D l hl as h0 x0 x1 (-1 : Int32) h9 e
    · refine v_iconst (pc' := 130) (v := 2) hc_X4_done dX4_done_129 rfl rfl ?_
      refine v_istore_n (pc' := 131) (lv' := [(3, .int (2 : Int32)), (2, .ref v1), (0, .ref x0), (1, .ref x1)]) hc_X4_done dX4_done_130 rfl rfl (Nat.le_of_ble_eq_true rfl) rfl ?_
      refine v_goto (pt := 218) hc_X4_done dX4_done_131 rfl ?_
      refine v_pick [2, 3, 0] rfl ?_
      exact w_X4_done_j218 D l hl as h0 x0 x1 (2 : Int32) h9 e
  rcases ite_cs e with ⟨n17, e⟩ | ⟨n17, e⟩
  · refine v_lookup (off := 123) (pt := 134) hc_X4_done dX4_done_11 (by decide) (by rw [n17]; rfl) rfl ?_
    refine v_aload_n (pc' := 135) hc_X4_done dX4_done_134 rfl rfl 1 rfl ?_
    refine v_ldcS (pc' := 137) (tx := "mix") (j := 104) hc_X4_done ho_X4_done (by decide +kernel) dX4_done_135 rfl e (fun v12 _ e => ?_)
    obtain ⟨c13, e⟩ := gd_of e
    obtain ⟨r14, h15, e16, e⟩ := bd2_of e
    refine k_V (pc' := 140) (ci := 19) (n := 1) hc_X4_done ho_X4_done rfl c13 (w_J6_equals D l hl v1 v12 h4 e16) (wA_l q1068) q1069 (wA_l q1070) q83 q1071 hy_38 ⟨Nat.le_of_ble_eq_true rfl, Nat.le_of_ble_eq_true rfl⟩ rfl rfl (Nat.le_of_ble_eq_true rfl) dX4_done_137 rfl (kS ?_) kN
    refine v_if_eq (pt := 218) (pf := 143) hc_X4_done dX4_done_140 rfl rfl e (fun _ e => ?_) (fun _ e => ?_)
    · refine v_pick [2, 3, 0] rfl ?_
      exact w_X4_done_j218 D l hl as h0 x0 x1 (-1 : Int32) h15 e
    · refine v_iconst (pc' := 144) (v := 3) hc_X4_done dX4_done_143 rfl rfl ?_
      refine v_istore_n (pc' := 145) (lv' := [(3, .int (3 : Int32)), (2, .ref v1), (0, .ref x0), (1, .ref x1)]) hc_X4_done dX4_done_144 rfl rfl (Nat.le_of_ble_eq_true rfl) rfl ?_
      refine v_goto (pt := 218) hc_X4_done dX4_done_145 rfl ?_
      refine v_pick [2, 3, 0] rfl ?_
      exact w_X4_done_j218 D l hl as h0 x0 x1 (3 : Int32) h15 e
  rcases ite_cs e with ⟨n23, e⟩ | ⟨n23, e⟩
  · refine v_lookup (off := 151) (pt := 162) hc_X4_done dX4_done_11 (by decide) (by rw [n23]; rfl) rfl ?_
    refine v_aload_n (pc' := 163) hc_X4_done dX4_done_162 rfl rfl 1 rfl ?_
    refine v_ldcS (pc' := 165) (tx := "back") (j := 106) hc_X4_done ho_X4_done (by decide +kernel) dX4_done_163 rfl e (fun v18 _ e => ?_)
    obtain ⟨c19, e⟩ := gd_of e
    obtain ⟨r20, h21, e22, e⟩ := bd2_of e
    refine k_V (pc' := 168) (ci := 19) (n := 1) hc_X4_done ho_X4_done rfl c19 (w_J6_equals D l hl v1 v18 h4 e22) (wA_l q1068) q1069 (wA_l q1070) q83 q1071 hy_38 ⟨Nat.le_of_ble_eq_true rfl, Nat.le_of_ble_eq_true rfl⟩ rfl rfl (Nat.le_of_ble_eq_true rfl) dX4_done_165 rfl (kS ?_) kN
    refine v_if_eq (pt := 218) (pf := 171) hc_X4_done dX4_done_168 rfl rfl e (fun _ e => ?_) (fun _ e => ?_)
    · refine v_pick [2, 3, 0] rfl ?_
      exact w_X4_done_j218 D l hl as h0 x0 x1 (-1 : Int32) h21 e
    · refine v_iconst (pc' := 172) (v := 5) hc_X4_done dX4_done_171 rfl rfl ?_
      refine v_istore_n (pc' := 173) (lv' := [(3, .int (5 : Int32)), (2, .ref v1), (0, .ref x0), (1, .ref x1)]) hc_X4_done dX4_done_172 rfl rfl (Nat.le_of_ble_eq_true rfl) rfl ?_
      refine v_goto (pt := 218) hc_X4_done dX4_done_173 rfl ?_
      refine v_pick [2, 3, 0] rfl ?_
      exact w_X4_done_j218 D l hl as h0 x0 x1 (5 : Int32) h21 e
  rcases ite_cs e with ⟨n29, e⟩ | ⟨n29, e⟩
  · refine v_lookup (off := 180) (pt := 191) hc_X4_done dX4_done_11 (by decide) (by rw [n29]; rfl) rfl ?_
    refine v_aload_n (pc' := 192) hc_X4_done dX4_done_191 rfl rfl 1 rfl ?_
    refine v_ldcS (pc' := 194) (tx := "hang") (j := 108) hc_X4_done ho_X4_done (by decide +kernel) dX4_done_192 rfl e (fun v24 _ e => ?_)
    obtain ⟨c25, e⟩ := gd_of e
    obtain ⟨r26, h27, e28, e⟩ := bd2_of e
    refine k_V (pc' := 197) (ci := 19) (n := 1) hc_X4_done ho_X4_done rfl c25 (w_J6_equals D l hl v1 v24 h4 e28) (wA_l q1068) q1069 (wA_l q1070) q83 q1071 hy_38 ⟨Nat.le_of_ble_eq_true rfl, Nat.le_of_ble_eq_true rfl⟩ rfl rfl (Nat.le_of_ble_eq_true rfl) dX4_done_194 rfl (kS ?_) kN
    refine v_if_eq (pt := 218) (pf := 200) hc_X4_done dX4_done_197 rfl rfl e (fun _ e => ?_) (fun _ e => ?_)
    · refine v_pick [2, 3, 0] rfl ?_
      exact w_X4_done_j218 D l hl as h0 x0 x1 (-1 : Int32) h27 e
    · refine v_bipush (pc' := 202) (v := 7) hc_X4_done dX4_done_200 rfl rfl ?_
      refine v_istore_n (pc' := 203) (lv' := [(3, .int (7 : Int32)), (2, .ref v1), (0, .ref x0), (1, .ref x1)]) hc_X4_done dX4_done_202 rfl rfl (Nat.le_of_ble_eq_true rfl) rfl ?_
      refine v_goto (pt := 218) hc_X4_done dX4_done_203 rfl ?_
      refine v_pick [2, 3, 0] rfl ?_
      exact w_X4_done_j218 D l hl as h0 x0 x1 (7 : Int32) h27 e
  rcases ite_cs e with ⟨n35, e⟩ | ⟨n35, e⟩
  · refine v_lookup (off := 165) (pt := 176) hc_X4_done dX4_done_11 (by decide) (by rw [n35]; rfl) rfl ?_
    refine v_aload_n (pc' := 177) hc_X4_done dX4_done_176 rfl rfl 1 rfl ?_
    refine v_ldcS (pc' := 179) (tx := "room") (j := 107) hc_X4_done ho_X4_done (by decide +kernel) dX4_done_177 rfl e (fun v30 _ e => ?_)
    obtain ⟨c31, e⟩ := gd_of e
    obtain ⟨r32, h33, e34, e⟩ := bd2_of e
    refine k_V (pc' := 182) (ci := 19) (n := 1) hc_X4_done ho_X4_done rfl c31 (w_J6_equals D l hl v1 v30 h4 e34) (wA_l q1068) q1069 (wA_l q1070) q83 q1071 hy_38 ⟨Nat.le_of_ble_eq_true rfl, Nat.le_of_ble_eq_true rfl⟩ rfl rfl (Nat.le_of_ble_eq_true rfl) dX4_done_179 rfl (kS ?_) kN
    refine v_if_eq (pt := 218) (pf := 185) hc_X4_done dX4_done_182 rfl rfl e (fun _ e => ?_) (fun _ e => ?_)
    · refine v_pick [2, 3, 0] rfl ?_
      exact w_X4_done_j218 D l hl as h0 x0 x1 (-1 : Int32) h33 e
    · refine v_bipush (pc' := 187) (v := 6) hc_X4_done dX4_done_185 rfl rfl ?_
      refine v_istore_n (pc' := 188) (lv' := [(3, .int (6 : Int32)), (2, .ref v1), (0, .ref x0), (1, .ref x1)]) hc_X4_done dX4_done_187 rfl rfl (Nat.le_of_ble_eq_true rfl) rfl ?_
      refine v_goto (pt := 218) hc_X4_done dX4_done_188 rfl ?_
      refine v_pick [2, 3, 0] rfl ?_
      exact w_X4_done_j218 D l hl as h0 x0 x1 (6 : Int32) h33 e
  rcases ite_cs e with ⟨n41, e⟩ | ⟨n41, e⟩
  · refine v_lookup (off := 81) (pt := 92) hc_X4_done dX4_done_11 (by decide) (by rw [n41]; rfl) rfl ?_
    refine v_aload_n (pc' := 93) hc_X4_done dX4_done_92 rfl rfl 1 rfl ?_
    refine v_ldcS (pc' := 95) (tx := "block") (j := 101) hc_X4_done ho_X4_done (by decide +kernel) dX4_done_93 rfl e (fun v36 _ e => ?_)
    obtain ⟨c37, e⟩ := gd_of e
    obtain ⟨r38, h39, e40, e⟩ := bd2_of e
    refine k_V (pc' := 98) (ci := 19) (n := 1) hc_X4_done ho_X4_done rfl c37 (w_J6_equals D l hl v1 v36 h4 e40) (wA_l q1068) q1069 (wA_l q1070) q83 q1071 hy_38 ⟨Nat.le_of_ble_eq_true rfl, Nat.le_of_ble_eq_true rfl⟩ rfl rfl (Nat.le_of_ble_eq_true rfl) dX4_done_95 rfl (kS ?_) kN
    refine v_if_eq (pt := 218) (pf := 101) hc_X4_done dX4_done_98 rfl rfl e (fun _ e => ?_) (fun _ e => ?_)
    · refine v_pick [2, 3, 0] rfl ?_
      exact w_X4_done_j218 D l hl as h0 x0 x1 (-1 : Int32) h39 e
    · refine v_iconst (pc' := 102) (v := 0) hc_X4_done dX4_done_101 rfl rfl ?_
      refine v_istore_n (pc' := 103) (lv' := [(3, .int (0 : Int32)), (2, .ref v1), (0, .ref x0), (1, .ref x1)]) hc_X4_done dX4_done_102 rfl rfl (Nat.le_of_ble_eq_true rfl) rfl ?_
      refine v_goto (pt := 218) hc_X4_done dX4_done_103 rfl ?_
      refine v_pick [2, 3, 0] rfl ?_
      exact w_X4_done_j218 D l hl as h0 x0 x1 (0 : Int32) h39 e
  rcases ite_cs e with ⟨n47, e⟩ | ⟨n47, e⟩
  · refine v_lookup (off := 95) (pt := 106) hc_X4_done dX4_done_11 (by decide) (by rw [n47]; rfl) rfl ?_
    refine v_aload_n (pc' := 107) hc_X4_done dX4_done_106 rfl rfl 1 rfl ?_
    refine v_ldcS (pc' := 109) (tx := "carve") (j := 102) hc_X4_done ho_X4_done (by decide +kernel) dX4_done_107 rfl e (fun v42 _ e => ?_)
    obtain ⟨c43, e⟩ := gd_of e
    obtain ⟨r44, h45, e46, e⟩ := bd2_of e
    refine k_V (pc' := 112) (ci := 19) (n := 1) hc_X4_done ho_X4_done rfl c43 (w_J6_equals D l hl v1 v42 h4 e46) (wA_l q1068) q1069 (wA_l q1070) q83 q1071 hy_38 ⟨Nat.le_of_ble_eq_true rfl, Nat.le_of_ble_eq_true rfl⟩ rfl rfl (Nat.le_of_ble_eq_true rfl) dX4_done_109 rfl (kS ?_) kN
    refine v_if_eq (pt := 218) (pf := 115) hc_X4_done dX4_done_112 rfl rfl e (fun _ e => ?_) (fun _ e => ?_)
    · refine v_pick [2, 3, 0] rfl ?_
      exact w_X4_done_j218 D l hl as h0 x0 x1 (-1 : Int32) h45 e
    · refine v_iconst (pc' := 116) (v := 1) hc_X4_done dX4_done_115 rfl rfl ?_
      refine v_istore_n (pc' := 117) (lv' := [(3, .int (1 : Int32)), (2, .ref v1), (0, .ref x0), (1, .ref x1)]) hc_X4_done dX4_done_116 rfl rfl (Nat.le_of_ble_eq_true rfl) rfl ?_
      refine v_goto (pt := 218) hc_X4_done dX4_done_117 rfl ?_
      refine v_pick [2, 3, 0] rfl ?_
      exact w_X4_done_j218 D l hl as h0 x0 x1 (1 : Int32) h45 e
  rcases ite_cs e with ⟨n53, e⟩ | ⟨n53, e⟩
  · refine v_lookup (off := 137) (pt := 148) hc_X4_done dX4_done_11 (by decide) (by rw [n53]; rfl) rfl ?_
    refine v_aload_n (pc' := 149) hc_X4_done dX4_done_148 rfl rfl 1 rfl ?_
    refine v_ldcS (pc' := 151) (tx := "print") (j := 105) hc_X4_done ho_X4_done (by decide +kernel) dX4_done_149 rfl e (fun v48 _ e => ?_)
    obtain ⟨c49, e⟩ := gd_of e
    obtain ⟨r50, h51, e52, e⟩ := bd2_of e
    refine k_V (pc' := 154) (ci := 19) (n := 1) hc_X4_done ho_X4_done rfl c49 (w_J6_equals D l hl v1 v48 h4 e52) (wA_l q1068) q1069 (wA_l q1070) q83 q1071 hy_38 ⟨Nat.le_of_ble_eq_true rfl, Nat.le_of_ble_eq_true rfl⟩ rfl rfl (Nat.le_of_ble_eq_true rfl) dX4_done_151 rfl (kS ?_) kN
    refine v_if_eq (pt := 218) (pf := 157) hc_X4_done dX4_done_154 rfl rfl e (fun _ e => ?_) (fun _ e => ?_)
    · refine v_pick [2, 3, 0] rfl ?_
      exact w_X4_done_j218 D l hl as h0 x0 x1 (-1 : Int32) h51 e
    · refine v_iconst (pc' := 158) (v := 4) hc_X4_done dX4_done_157 rfl rfl ?_
      refine v_istore_n (pc' := 159) (lv' := [(3, .int (4 : Int32)), (2, .ref v1), (0, .ref x0), (1, .ref x1)]) hc_X4_done dX4_done_158 rfl rfl (Nat.le_of_ble_eq_true rfl) rfl ?_
      refine v_goto (pt := 218) hc_X4_done dX4_done_159 rfl ?_
      refine v_pick [2, 3, 0] rfl ?_
      exact w_X4_done_j218 D l hl as h0 x0 x1 (4 : Int32) h51 e
  rcases ite_cs e with ⟨n59, e⟩ | ⟨n59, e⟩
  · refine v_lookup (off := 195) (pt := 206) hc_X4_done dX4_done_11 (by decide) (by rw [n59]; rfl) rfl ?_
    refine v_aload_n (pc' := 207) hc_X4_done dX4_done_206 rfl rfl 1 rfl ?_
    refine v_ldcS (pc' := 209) (tx := "strip") (j := 109) hc_X4_done ho_X4_done (by decide +kernel) dX4_done_207 rfl e (fun v54 _ e => ?_)
    obtain ⟨c55, e⟩ := gd_of e
    obtain ⟨r56, h57, e58, e⟩ := bd2_of e
    refine k_V (pc' := 212) (ci := 19) (n := 1) hc_X4_done ho_X4_done rfl c55 (w_J6_equals D l hl v1 v54 h4 e58) (wA_l q1068) q1069 (wA_l q1070) q83 q1071 hy_38 ⟨Nat.le_of_ble_eq_true rfl, Nat.le_of_ble_eq_true rfl⟩ rfl rfl (Nat.le_of_ble_eq_true rfl) dX4_done_209 rfl (kS ?_) kN
    refine v_if_eq (pt := 218) (pf := 215) hc_X4_done dX4_done_212 rfl rfl e (fun _ e => ?_) (fun _ e => ?_)
    · refine v_pick [2, 3, 0] rfl ?_
      exact w_X4_done_j218 D l hl as h0 x0 x1 (-1 : Int32) h57 e
    · refine v_bipush (pc' := 217) (v := 8) hc_X4_done dX4_done_215 rfl rfl ?_
      refine v_istore_n (pc' := 218) (lv' := [(3, .int (8 : Int32)), (2, .ref v1), (0, .ref x0), (1, .ref x1)]) hc_X4_done dX4_done_217 rfl rfl (Nat.le_of_ble_eq_true rfl) rfl ?_
      refine v_pick [2, 3, 0] rfl ?_
      exact w_X4_done_j218 D l hl as h0 x0 x1 (8 : Int32) h57 e
  refine v_lookup (off := 207) (pt := 218) hc_X4_done dX4_done_11 (by decide) (lk_c (lk_n n11 rfl) (lk_c (lk_n n17 rfl) (lk_c (lk_n n23 rfl) (lk_c (lk_n n29 rfl) (lk_c (lk_n n35 rfl) (lk_c (lk_n n41 rfl) (lk_c (lk_n n47 rfl) (lk_c (lk_n n53 rfl) (lk_c (lk_n n59 rfl) lk_z))))))))) rfl ?_
  refine v_pick [2, 3, 0] rfl ?_
  exact w_X4_done_j218 D l hl as h0 x0 x1 (-1 : Int32) h4 e
theorem w_X4_done (D : va_G) (l : Launch) (hl : l.stackTraces = false) (x0 : Nat) (x1 : Nat) (h : AH) {r : (Int32 ⊕ Nat)} {hF : AH} (e : f_X4_done x0 x1 h = some (r, hF)) : MetV D l yX4_done (Cond.code yX4_done cX4_done 4 (Option.some .int)) 10 251 [.ref x0, .ref x1] h hF ((oX oI) r) :=
  met_ofF (by decide +kernel) hl (Nat.le_of_ble_eq_true rfl) rfl (v_X4_done D l hl [.ref x0, .ref x1] h x0 x1 h e)
/-! BlockPapers.replace(LBlockPapers$Workshop;)V  -/
abbrev G_X1_replace (D : va_G) (l : Launch) (as : List Value) (h0 hF : AH) (o : Out) : CT := (D, l, (yX1_replace.cls, yX1_replace, cX1_replace, 3, (Option.none : Option FieldType), 7, 184, []), as, h0, hF, o)
theorem hc_X1_replace {D : va_G} {l : Launch} {as : List Value} {h0 hF : AH} {o : Out} : gC (G_X1_replace D l as h0 hF o) = cX1_replace := rfl
theorem ho_X1_replace {D : va_G} {l : Launch} {as : List Value} {h0 hF : AH} {o : Out} : gO (G_X1_replace D l as h0 hF o) = "BlockPapers" := rfl
theorem hp_X1_replace {D : va_G} {l : Launch} {as : List Value} {h0 hF : AH} {o : Out} (pc : Nat) : ∀ z ∈ tableOf (gHd (G_X1_replace D l as h0 hF o)), covers z pc = false := hpN
def f_X1_replace (x0 : Nat) (x1 : Nat) (h : AH) : Option (Unit × AH) :=
  bd (gtR h 0 x0 1) fun v1 =>
  gd (isC h 17 v1) <|
  bd2 (f_J3_size v1 h) fun r3 h4 =>
  if r3 = (8 : Int32) then (
    bd (gtR h4 0 x0 1) fun v6 =>
    gd (isC h4 17 v6) <|
    bd2 (f_J3_removeLast v6 h4) fun r8 h9 =>
    gd (isC h9 1 r8) <|
    bd (gtR h9 0 x0 1) fun v12 =>
    bd (gtR h9 0 x0 0) fun v13 =>
    gd (isC h9 17 v12) <|
    bd2 (f_J3_push v12 v13 h9) fun r15 h16 =>
    bd (stF h16 0 x0 0 (.ref x1)) fun h18 =>
    some ((), h18)
  ) else (
    bd (gtR h4 0 x0 1) fun v19 =>
    bd (gtR h4 0 x0 0) fun v20 =>
    gd (isC h4 17 v19) <|
    bd2 (f_J3_push v19 v20 h4) fun r22 h23 =>
    bd (stF h23 0 x0 0 (.ref x1)) fun h25 =>
    some ((), h25)
  )
theorem v_X1_replace (D : va_G) (l : Launch) (hl : l.stackTraces = false) (as : List Value) (h0 : AH) {r : Unit} {hF : AH} (x0 : Nat) (x1 : Nat) (h : AH) (e : f_X1_replace x0 x1 h = some (r, hF)) : V (G_X1_replace D l as h0 hF (oV r)) h 0 [(0, .ref x0), (1, .ref x1)] [] := by
  unfold f_X1_replace at e
  refine v_aload_n (pc' := 1) hc_X1_replace dX1_replace_0 rfl rfl 0 rfl ?_
  refine v_gfR (pc' := 4) hc_X1_replace ho_X1_replace KX1 1 (Nat.le_of_ble_eq_true rfl) q236 (Or.inl rfl) dX1_replace_1 rfl e (fun v1 _ e => ?_)
  obtain ⟨c2, e⟩ := gd_of e
  obtain ⟨r3, h4, e5, e⟩ := bd2_of e
  refine k_V (pc' := 7) (ci := 17) (n := 0) hc_X1_replace ho_X1_replace rfl c2 (w_J3_size D l hl v1 h e5) (wA_l q526) q527 (wA_l q528) q80 q529 hy_97 ⟨Nat.le_of_ble_eq_true rfl, Nat.le_of_ble_eq_true rfl⟩ rfl rfl (Nat.le_of_ble_eq_true rfl) dX1_replace_4 rfl (kS ?_) kN
  refine v_bipush (pc' := 9) (v := 8) hc_X1_replace dX1_replace_7 rfl rfl ?_
  refine v_icmp_ne (pt := 23) (pf := 12) hc_X1_replace dX1_replace_9 rfl rfl e (fun _ e => ?_) (fun _ e => ?_)
  · refine v_aload_n (pc' := 13) hc_X1_replace dX1_replace_12 rfl rfl 0 rfl ?_
    refine v_gfR (pc' := 16) hc_X1_replace ho_X1_replace KX1 1 (Nat.le_of_ble_eq_true rfl) q236 (Or.inl rfl) dX1_replace_13 rfl e (fun v6 _ e => ?_)
    obtain ⟨c7, e⟩ := gd_of e
    obtain ⟨r8, h9, e10, e⟩ := bd2_of e
    refine k_V (pc' := 19) (ci := 17) (n := 0) hc_X1_replace ho_X1_replace rfl c7 (w_J3_removeLast D l hl v6 h4 e10) (wA_l q1488) q1489 (wA_l q1490) q80 q1491 hy_101 ⟨Nat.le_of_ble_eq_true rfl, Nat.le_of_ble_eq_true rfl⟩ rfl rfl (Nat.le_of_ble_eq_true rfl) dX1_replace_16 rfl (kS ?_) kN
    obtain ⟨c11, e⟩ := gd_of e
    refine v_cast (pc' := 22) (ci := 1) hc_X1_replace ho_X1_replace rfl q129 (Or.inl rfl) dX1_replace_19 rfl c11 ?_
    refine v_astore_n (pc' := 23) (lv' := [(2, .ref r8), (0, .ref x0), (1, .ref x1)]) hc_X1_replace dX1_replace_22 rfl rfl (Nat.le_of_ble_eq_true rfl) rfl ?_
    refine v_aload_n (pc' := 24) hc_X1_replace dX1_replace_23 rfl rfl 1 rfl ?_
    refine v_gfR (pc' := 27) hc_X1_replace ho_X1_replace KX1 1 (Nat.le_of_ble_eq_true rfl) q236 (Or.inl rfl) dX1_replace_24 rfl e (fun v12 _ e => ?_)
    refine v_aload_n (pc' := 28) hc_X1_replace dX1_replace_27 rfl rfl 1 rfl ?_
    refine v_gfR (pc' := 31) hc_X1_replace ho_X1_replace KX1 0 (Nat.le_of_ble_eq_true rfl) q235 (Or.inl rfl) dX1_replace_28 rfl e (fun v13 _ e => ?_)
    obtain ⟨c14, e⟩ := gd_of e
    obtain ⟨r15, h16, e17, e⟩ := bd2_of e
    refine k_V (pc' := 34) (ci := 17) (n := 1) hc_X1_replace ho_X1_replace rfl c14 (w_J3_push D l hl v12 v13 h9 e17) (wA_l q1504) q1505 (wA_l q1506) q80 q1507 hy_105 ⟨Nat.le_of_ble_eq_true rfl, Nat.le_of_ble_eq_true rfl⟩ rfl rfl (Nat.le_of_ble_eq_true rfl) dX1_replace_31 rfl (kU ?_) kN
    refine v_aload_n (pc' := 35) hc_X1_replace dX1_replace_34 rfl rfl 1 rfl ?_
    refine v_aload_n (pc' := 36) hc_X1_replace dX1_replace_35 rfl rfl 2 rfl ?_
    refine v_pf (pc' := 39) hc_X1_replace ho_X1_replace KX1 0 (Nat.le_of_ble_eq_true rfl) q235 (Or.inl rfl) rfl dX1_replace_36 rfl rfl rfl e (fun h18 _ e => ?_)
    obtain ⟨rfl, rfl⟩ := ret_of e
    exact v_ret hc_X1_replace rfl dX1_replace_39 rfl rfl
  · refine v_aload_n (pc' := 24) hc_X1_replace dX1_replace_23 rfl rfl 0 rfl ?_
    refine v_gfR (pc' := 27) hc_X1_replace ho_X1_replace KX1 1 (Nat.le_of_ble_eq_true rfl) q236 (Or.inl rfl) dX1_replace_24 rfl e (fun v19 _ e => ?_)
    refine v_aload_n (pc' := 28) hc_X1_replace dX1_replace_27 rfl rfl 0 rfl ?_
    refine v_gfR (pc' := 31) hc_X1_replace ho_X1_replace KX1 0 (Nat.le_of_ble_eq_true rfl) q235 (Or.inl rfl) dX1_replace_28 rfl e (fun v20 _ e => ?_)
    obtain ⟨c21, e⟩ := gd_of e
    obtain ⟨r22, h23, e24, e⟩ := bd2_of e
    refine k_V (pc' := 34) (ci := 17) (n := 1) hc_X1_replace ho_X1_replace rfl c21 (w_J3_push D l hl v19 v20 h4 e24) (wA_l q1504) q1505 (wA_l q1506) q80 q1507 hy_105 ⟨Nat.le_of_ble_eq_true rfl, Nat.le_of_ble_eq_true rfl⟩ rfl rfl (Nat.le_of_ble_eq_true rfl) dX1_replace_31 rfl (kU ?_) kN
    refine v_aload_n (pc' := 35) hc_X1_replace dX1_replace_34 rfl rfl 0 rfl ?_
    refine v_aload_n (pc' := 36) hc_X1_replace dX1_replace_35 rfl rfl 1 rfl ?_
    refine v_pf (pc' := 39) hc_X1_replace ho_X1_replace KX1 0 (Nat.le_of_ble_eq_true rfl) q235 (Or.inl rfl) rfl dX1_replace_36 rfl rfl rfl e (fun h25 _ e => ?_)
    obtain ⟨rfl, rfl⟩ := ret_of e
    exact v_ret hc_X1_replace rfl dX1_replace_39 rfl rfl
theorem w_X1_replace (D : va_G) (l : Launch) (hl : l.stackTraces = false) (x0 : Nat) (x1 : Nat) (h : AH) {r : Unit} {hF : AH} (e : f_X1_replace x0 x1 h = some (r, hF)) : MetV D l yX1_replace (Cond.code yX1_replace cX1_replace 3 (Option.none : Option FieldType)) 7 184 [.ref x0, .ref x1] h hF (oV r) :=
  met_ofF (by decide +kernel) hl (Nat.le_of_ble_eq_true rfl) rfl (v_X1_replace D l hl [.ref x0, .ref x1] h x0 x1 h e)
/-! BlockPapers$Failure.<init>(IILjava/lang/Throwable;)V  -/
abbrev G_X7_init_2 (D : va_G) (l : Launch) (as : List Value) (h0 hF : AH) (o : Out) : CT := (D, l, (yX7_init_2.cls, yX7_init_2, cX7_init_2, 4, (Option.none : Option FieldType), 3, 96, []), as, h0, hF, o)
theorem hc_X7_init_2 {D : va_G} {l : Launch} {as : List Value} {h0 hF : AH} {o : Out} : gC (G_X7_init_2 D l as h0 hF o) = cX7_init_2 := rfl
theorem ho_X7_init_2 {D : va_G} {l : Launch} {as : List Value} {h0 hF : AH} {o : Out} : gO (G_X7_init_2 D l as h0 hF o) = "BlockPapers$Failure" := rfl
theorem hp_X7_init_2 {D : va_G} {l : Launch} {as : List Value} {h0 hF : AH} {o : Out} (pc : Nat) : ∀ z ∈ tableOf (gHd (G_X7_init_2 D l as h0 hF o)), covers z pc = false := hpN
def f_X7_init_2 (x0 : Nat) (x1 : Int32) (x2 : Int32) (x3 : Nat) (h : AH) : Option (Unit × AH) :=
  bd2 (f_J10_init_3_6_n1 x0 x3 (0 : Int32) (0 : Int32) h) fun r1 h2 =>
  bd (stF h2 6 x0 6 (.int x1)) fun h4 =>
  bd (stF h4 6 x0 7 (.int x2)) fun h5 =>
  some ((), h5)
theorem v_X7_init_2 (D : va_G) (l : Launch) (hl : l.stackTraces = false) (as : List Value) (h0 : AH) {r : Unit} {hF : AH} (x0 : Nat) (x1 : Int32) (x2 : Int32) (x3 : Nat) (h : AH) (e : f_X7_init_2 x0 x1 x2 x3 h = some (r, hF)) : V (G_X7_init_2 D l as h0 hF (oV r)) h 0 [(0, .ref x0), (1, .int x1), (2, .int x2), (3, .ref x3)] [] := by
  unfold f_X7_init_2 at e
  refine v_aload_n (pc' := 1) hc_X7_init_2 dX7_init_2_0 rfl rfl 0 rfl ?_
  refine v_null (pc' := 2) hc_X7_init_2 dX7_init_2_1 rfl ?_
  refine v_aload_n (pc' := 3) hc_X7_init_2 dX7_init_2_2 rfl rfl 3 rfl ?_
  refine v_iconst (pc' := 4) (v := 0) hc_X7_init_2 dX7_init_2_3 rfl rfl ?_
  refine v_iconst (pc' := 5) (v := 0) hc_X7_init_2 dX7_init_2_4 rfl rfl ?_
  obtain ⟨r1, h2, e3, e⟩ := bd2_of e
  refine k_I (pc' := 8) (n := 4) hc_X7_init_2 ho_X7_init_2 (w_J10_init_3_6_n1 D l hl x0 x3 (0 : Int32) (0 : Int32) h e3) (wA_l q1104) q1105 q89 q1106 rfl hy_42 ⟨Nat.le_of_ble_eq_true rfl, Nat.le_of_ble_eq_true rfl⟩ rfl rfl (Nat.le_of_ble_eq_true rfl) dX7_init_2_5 rfl (kU ?_) kN
  refine v_aload_n (pc' := 9) hc_X7_init_2 dX7_init_2_8 rfl rfl 0 rfl ?_
  refine v_iload_n (pc' := 10) hc_X7_init_2 dX7_init_2_9 rfl rfl 1 rfl ?_
  refine v_pfF (pc' := 13) hc_X7_init_2 ho_X7_init_2 rfl KX7 6 (Nat.le_of_ble_eq_true rfl) q1110 rfl rfl rfl dX7_init_2_10 rfl rfl rfl e (fun h4 _ e => ?_)
  refine v_aload_n (pc' := 14) hc_X7_init_2 dX7_init_2_13 rfl rfl 0 rfl ?_
  refine v_iload_n (pc' := 15) hc_X7_init_2 dX7_init_2_14 rfl rfl 2 rfl ?_
  refine v_pfF (pc' := 18) hc_X7_init_2 ho_X7_init_2 rfl KX7 7 (Nat.le_of_ble_eq_true rfl) q1112 rfl rfl rfl dX7_init_2_15 rfl rfl rfl e (fun h5 _ e => ?_)
  obtain ⟨rfl, rfl⟩ := ret_of e
  exact v_ret hc_X7_init_2 rfl dX7_init_2_18 rfl rfl
theorem w_X7_init_2 (D : va_G) (l : Launch) (hl : l.stackTraces = false) (x0 : Nat) (x1 : Int32) (x2 : Int32) (x3 : Nat) (h : AH) {r : Unit} {hF : AH} (e : f_X7_init_2 x0 x1 x2 x3 h = some (r, hF)) : MetV D l yX7_init_2 (Cond.code yX7_init_2 cX7_init_2 4 (Option.none : Option FieldType)) 3 96 [.ref x0, .int x1, .int x2, .ref x3] h hF (oV r) :=
  met_ofF (by decide +kernel) hl (Nat.le_of_ble_eq_true rfl) rfl (v_X7_init_2 D l hl [.ref x0, .int x1, .int x2, .ref x3] h x0 x1 x2 x3 h e)
/-! BlockPapers$All.does(LBlockPapers$Deed;LBlockPapers$Workshop;I)V  -/
abbrev G_X6_does (D : va_G) (l : Launch) (as : List Value) (h0 hF : AH) (o : Out) : CT := (D, l, (yX6_does.cls, yX6_does, cX6_does, 4, (Option.none : Option FieldType), 11, 274, [(0, 8, 11, 21), (0, 8, 24, 26), (0, 8, 24, 28)]), as, h0, hF, o)
theorem hc_X6_does {D : va_G} {l : Launch} {as : List Value} {h0 hF : AH} {o : Out} : gC (G_X6_does D l as h0 hF o) = cX6_does := rfl
theorem ho_X6_does {D : va_G} {l : Launch} {as : List Value} {h0 hF : AH} {o : Out} : gO (G_X6_does D l as h0 hF o) = "BlockPapers$All" := rfl
def f_X6_does (x0 : Nat) (x1 : Nat) (x2 : Int32) (h : AH) : Option ((Unit ⊕ Nat) × AH) :=
  gd (isC h 3 x0) <|
  bdX (f_X4_done x0 x1 h) (fun zq5 h3 =>
    if isX h3 6 zq5 = true then (
      bd2 (nwX h3 6 8 fsX7) fun a7 h6 =>
      bd2 (f_X7_init_2 a7 (20 : Int32) x2 zq5 h6) fun r8 h9 =>
      outX h9 a7
    ) else (
    if isX h3 22 zq5 = true then (
      bd2 (nwX h3 6 8 fsX7) fun a13 h12 =>
      bd2 (f_X7_init_2 a13 (20 : Int32) x2 zq5 h12) fun r14 h15 =>
      outX h15 a13
    ) else (
    if isX h3 21 zq5 = true then (
      bd2 (nwX h3 6 8 fsX7) fun a19 h18 =>
      bd2 (f_X7_init_2 a19 (20 : Int32) x2 zq5 h18) fun r20 h21 =>
      outX h21 a19
    ) else (
    none)))
  ) fun r2 h3 =>
  some (.inl (), h3)
theorem v_X6_does (D : va_G) (l : Launch) (hl : l.stackTraces = false) (as : List Value) (h0 : AH) {r : (Unit ⊕ Nat)} {hF : AH} (x0 : Nat) (x1 : Nat) (x2 : Int32) (h : AH) (e : f_X6_does x0 x1 x2 h = some (r, hF)) : V (G_X6_does D l as h0 hF ((oX oV) r)) h 0 [(0, .ref x0), (1, .ref x1), (2, .int x2)] [] := by
  unfold f_X6_does at e
  refine v_aload_n (pc' := 1) hc_X6_does dX6_does_0 rfl rfl 0 rfl ?_
  refine v_aload_n (pc' := 2) hc_X6_does dX6_does_1 rfl rfl 1 rfl ?_
  obtain ⟨c1, e⟩ := gd_of e
  rcases bdX_of e with ⟨r2, h3, e4, e⟩ | ⟨zq5, h3, e4, e⟩
  · refine k_F (pc' := 7) (x := ⟨"BlockPapers$Deed", "done", "(LBlockPapers$Workshop;)I"⟩) (y := ⟨"BlockPapers$Named", "done", "(LBlockPapers$Workshop;)I"⟩) (ci := 3) (n := 1) hc_X6_does ho_X6_does rfl c1 (w_X4_done D l hl x0 x1 h e4) (wA_l q999) (by decide +kernel) q1001 q1003 q86 q1005 hy_95 ⟨Nat.le_of_ble_eq_true rfl, Nat.le_of_ble_eq_true rfl⟩ rfl rfl (Nat.le_of_ble_eq_true rfl) dX6_does_2 rfl (kS ?_) kN
    refine v_istore_n (pc' := 8) (lv' := [(3, .int r2), (0, .ref x0), (1, .ref x1), (2, .int x2)]) hc_X6_does dX6_does_7 rfl rfl (Nat.le_of_ble_eq_true rfl) rfl ?_
    refine v_goto (pt := 37) hc_X6_does dX6_does_8 rfl ?_
    obtain ⟨rfl, rfl⟩ := ret_of e
    exact v_ret hc_X6_does rfl dX6_does_37 rfl rfl
  · refine k_F (pc' := 7) (x := ⟨"BlockPapers$Deed", "done", "(LBlockPapers$Workshop;)I"⟩) (y := ⟨"BlockPapers$Named", "done", "(LBlockPapers$Workshop;)I"⟩) (ci := 3) (n := 1) hc_X6_does ho_X6_does rfl c1 (w_X4_done D l hl x0 x1 h e4) (wA_l q999) (by decide +kernel) q1001 q1003 q86 q1005 hy_95 ⟨Nat.le_of_ble_eq_true rfl, Nat.le_of_ble_eq_true rfl⟩ rfl rfl (Nat.le_of_ble_eq_true rfl) dX6_does_2 rfl kM (kX ?_)
    rcases ite_cs e with ⟨c11, e⟩ | ⟨_, e⟩
    · refine v_catchH (ci := 6) (nm := "BlockPapers$Failure") (pre := []) (x := (0, 8, 11, 21)) (suf := [(0, 8, 24, 26), (0, 8, 24, 28)]) ho_X6_does c11 rfl rfl (by decide) (by decide) hpN q977 q1094 ?_
      refine v_astore_n (pc' := 12) (lv' := [(3, .ref zq5), (0, .ref x0), (1, .ref x1), (2, .int x2)]) hc_X6_does dX6_does_11 rfl rfl (Nat.le_of_ble_eq_true rfl) rfl ?_
      refine v_newX (pc' := 15) hc_X6_does ho_X6_does KX7 q977 q1093 q106 rfl dfX7 dX6_does_12 rfl e (fun a7 h6 _ e => ?_)
      refine v_dup (pc' := 16) hc_X6_does dX6_does_15 rfl rfl ?_
      refine v_bipush (pc' := 18) (v := 20) hc_X6_does dX6_does_16 rfl rfl ?_
      refine v_iload_n (pc' := 19) hc_X6_does dX6_does_18 rfl rfl 3 rfl ?_
      refine v_aload_n (pc' := 20) hc_X6_does dX6_does_19 rfl rfl 0 rfl ?_
      obtain ⟨r8, h9, e10, e⟩ := bd2_of e
      refine k_I (pc' := 23) (n := 3) hc_X6_does ho_X6_does (w_X7_init_2 D l hl a7 (20 : Int32) x2 zq5 h6 e10) (wA_l q1481) q1482 q106 q1483 rfl hy_112 ⟨Nat.le_of_ble_eq_true rfl, Nat.le_of_ble_eq_true rfl⟩ rfl rfl (Nat.le_of_ble_eq_true rfl) dX6_does_20 rfl (kU ?_) kN
      refine v_athrow hc_X6_does dX6_does_23 ?_
      exact v_outA (hpC (by decide) (hpC (by decide) (hpC (by decide) hpN))) rfl rfl e
    rcases ite_cs e with ⟨c17, e⟩ | ⟨_, e⟩
    · refine v_catchH (ci := 22) (nm := "java/lang/IndexOutOfBoundsException") (pre := [(0, 8, 11, 21)]) (x := (0, 8, 24, 26)) (suf := [(0, 8, 24, 28)]) ho_X6_does c17 rfl rfl (by decide) (by decide) (hpC (Or.inr ⟨by decide, "BlockPapers$Failure", q977, by decide +kernel⟩) hpN) q978 q1156 ?_
      refine v_astore_n (pc' := 25) (lv' := [(3, .ref zq5), (0, .ref x0), (1, .ref x1), (2, .int x2)]) hc_X6_does dX6_does_24 rfl rfl (Nat.le_of_ble_eq_true rfl) rfl ?_
      refine v_newX (pc' := 28) hc_X6_does ho_X6_does KX7 q977 q1093 q106 rfl dfX7 dX6_does_25 rfl e (fun a13 h12 _ e => ?_)
      refine v_dup (pc' := 29) hc_X6_does dX6_does_28 rfl rfl ?_
      refine v_bipush (pc' := 31) (v := 20) hc_X6_does dX6_does_29 rfl rfl ?_
      refine v_iload_n (pc' := 32) hc_X6_does dX6_does_31 rfl rfl 3 rfl ?_
      refine v_aload_n (pc' := 33) hc_X6_does dX6_does_32 rfl rfl 0 rfl ?_
      obtain ⟨r14, h15, e16, e⟩ := bd2_of e
      refine k_I (pc' := 36) (n := 3) hc_X6_does ho_X6_does (w_X7_init_2 D l hl a13 (20 : Int32) x2 zq5 h12 e16) (wA_l q1481) q1482 q106 q1483 rfl hy_112 ⟨Nat.le_of_ble_eq_true rfl, Nat.le_of_ble_eq_true rfl⟩ rfl rfl (Nat.le_of_ble_eq_true rfl) dX6_does_33 rfl (kU ?_) kN
      refine v_athrow hc_X6_does dX6_does_36 ?_
      exact v_outA (hpC (by decide) (hpC (by decide) (hpC (by decide) hpN))) rfl rfl e
    rcases ite_cs e with ⟨c23, e⟩ | ⟨_, e⟩
    · refine v_catchH (ci := 21) (nm := "java/lang/IllegalArgumentException") (pre := [(0, 8, 11, 21), (0, 8, 24, 26)]) (x := (0, 8, 24, 28)) (suf := []) ho_X6_does c23 rfl rfl (by decide) (by decide) (hpC (Or.inr ⟨by decide, "BlockPapers$Failure", q977, by decide +kernel⟩) (hpC (Or.inr ⟨by decide, "java/lang/IndexOutOfBoundsException", q978, by decide +kernel⟩) hpN)) q997 q274 ?_
      refine v_astore_n (pc' := 25) (lv' := [(3, .ref zq5), (0, .ref x0), (1, .ref x1), (2, .int x2)]) hc_X6_does dX6_does_24 rfl rfl (Nat.le_of_ble_eq_true rfl) rfl ?_
      refine v_newX (pc' := 28) hc_X6_does ho_X6_does KX7 q977 q1093 q106 rfl dfX7 dX6_does_25 rfl e (fun a19 h18 _ e => ?_)
      refine v_dup (pc' := 29) hc_X6_does dX6_does_28 rfl rfl ?_
      refine v_bipush (pc' := 31) (v := 20) hc_X6_does dX6_does_29 rfl rfl ?_
      refine v_iload_n (pc' := 32) hc_X6_does dX6_does_31 rfl rfl 3 rfl ?_
      refine v_aload_n (pc' := 33) hc_X6_does dX6_does_32 rfl rfl 0 rfl ?_
      obtain ⟨r20, h21, e22, e⟩ := bd2_of e
      refine k_I (pc' := 36) (n := 3) hc_X6_does ho_X6_does (w_X7_init_2 D l hl a19 (20 : Int32) x2 zq5 h18 e22) (wA_l q1481) q1482 q106 q1483 rfl hy_112 ⟨Nat.le_of_ble_eq_true rfl, Nat.le_of_ble_eq_true rfl⟩ rfl rfl (Nat.le_of_ble_eq_true rfl) dX6_does_33 rfl (kU ?_) kN
      refine v_athrow hc_X6_does dX6_does_36 ?_
      exact v_outA (hpC (by decide) (hpC (by decide) (hpC (by decide) hpN))) rfl rfl e
    exact nomatch e
theorem w_X6_does (D : va_G) (l : Launch) (hl : l.stackTraces = false) (x0 : Nat) (x1 : Nat) (x2 : Int32) (h : AH) {r : (Unit ⊕ Nat)} {hF : AH} (e : f_X6_does x0 x1 x2 h = some (r, hF)) : MetV D l yX6_does (Cond.codeWith yX6_does cX6_does 4 (Option.none : Option FieldType) [(0, 8, 11, 21), (0, 8, 24, 26), (0, 8, 24, 28)]) 11 274 [.ref x0, .ref x1, .int x2] h hF ((oX oV) r) :=
  met_ofHF (by decide +kernel) hl (Nat.le_of_ble_eq_true rfl) rfl (v_X6_does D l hl [.ref x0, .ref x1, .int x2] h x0 x1 x2 h e)
/-! BlockPapers$All.done(LBlockPapers$Workshop;)I  -/
abbrev G_X6_done (D : va_G) (l : Launch) (as : List Value) (h0 hF : AH) (o : Out) : CT := (D, l, (yX6_done.cls, yX6_done, cX6_done, 5, (Option.some .int), 12, 297, []), as, h0, hF, o)
theorem hc_X6_done {D : va_G} {l : Launch} {as : List Value} {h0 hF : AH} {o : Out} : gC (G_X6_done D l as h0 hF o) = cX6_done := rfl
theorem ho_X6_done {D : va_G} {l : Launch} {as : List Value} {h0 hF : AH} {o : Out} : gO (G_X6_done D l as h0 hF o) = "BlockPapers$All" := rfl
theorem hp_X6_done {D : va_G} {l : Launch} {as : List Value} {h0 hF : AH} {o : Out} (pc : Nat) : ∀ z ∈ tableOf (gHd (G_X6_done D l as h0 hF o)), covers z pc = false := hpN
def fb_X6_done_l12 (rec : Nat → Int32 → Nat → AH → Option ((Int32 ⊕ Nat) × AH)) (x1 : Nat) (x2 : Int32) (x3 : Nat) (h : AH) : Option ((Int32 ⊕ Nat) × AH) :=
  gd (isC h 20 x3) <|
  bd2 (f_J19_hasNext x3 h) fun r2 h3 =>
  if r2 = 0 then (
    some (.inl x2, h3)
  ) else (
    gd (isC h3 20 x3) <|
    bd2 (f_J19_next x3 h3) fun r6 h7 =>
    gd (isC h7 3 r6) <|
    bdX (f_X6_does r6 x1 x2 h7) (fun zq13 h11 =>
      outX h11 zq13
    ) fun r10 h11 =>
    rec x1 (x2 + 1) x3 h11
  )
def f_X6_done_l12 : Nat → Nat → Int32 → Nat → AH → Option ((Int32 ⊕ Nat) × AH)
  | 0 => fun _ _ _ _ => none
  | n + 1 => fb_X6_done_l12 (f_X6_done_l12 n) 
theorem w_X6_done_l12 (D : va_G) (l : Launch) (hl : l.stackTraces = false) (as : List Value) (h0 : AH) {r : (Int32 ⊕ Nat)} {hF : AH} : ∀ (n : Nat) (x1 : Nat) (x2 : Int32) (x3 : Nat) (h : AH), f_X6_done_l12 n x1 x2 x3 h = some (r, hF) → V (G_X6_done D l as h0 hF ((oX oI) r)) h 12 [(1, .ref x1), (2, .int x2), (3, .ref x3)] [] := by
  intro n; induction n with
  | zero => intro x1 x2 x3 h e; exact absurd (show (none : Option ((Int32 ⊕ Nat) × AH)) = some _ from e) (fun z => nomatch z)
  | succ n IH =>
    intro x1 x2 x3 h e
    have e : fb_X6_done_l12 (f_X6_done_l12 n) x1 x2 x3 h = some (r, hF) := e
    unfold fb_X6_done_l12 at e
    refine v_aload_n (pc' := 13) hc_X6_done dX6_done_12 rfl rfl 2 rfl ?_
    obtain ⟨c1, e⟩ := gd_of e
    obtain ⟨r2, h3, e4, e⟩ := bd2_of e
    refine k_F (pc' := 18) (x := ⟨"java/util/Iterator", "hasNext", "()Z"⟩) (y := ⟨"java/util/ArrayList$Itr", "hasNext", "()Z"⟩) (ci := 20) (n := 0) hc_X6_done ho_X6_done rfl c1 (w_J19_hasNext D l hl x3 h e4) (wA_l q970) (by decide +kernel) q418 q420 q101 q422 hy_109 ⟨Nat.le_of_ble_eq_true rfl, Nat.le_of_ble_eq_true rfl⟩ rfl rfl (Nat.le_of_ble_eq_true rfl) dX6_done_13 rfl (kS ?_) kN
    refine v_if_eq (pt := 45) (pf := 21) hc_X6_done dX6_done_18 rfl rfl e (fun _ e => ?_) (fun _ e => ?_)
    · refine v_iload_n (pc' := 46) hc_X6_done dX6_done_45 rfl rfl 1 rfl ?_
      obtain ⟨rfl, rfl⟩ := ret_of e
      exact v_iret hc_X6_done rfl dX6_done_46 rfl rfl
    · refine v_aload_n (pc' := 22) hc_X6_done dX6_done_21 rfl rfl 2 rfl ?_
      obtain ⟨c5, e⟩ := gd_of e
      obtain ⟨r6, h7, e8, e⟩ := bd2_of e
      refine k_F (pc' := 27) (x := ⟨"java/util/Iterator", "next", "()Ljava/lang/Object;"⟩) (y := ⟨"java/util/ArrayList$Itr", "next", "()Ljava/lang/Object;"⟩) (ci := 20) (n := 0) hc_X6_done ho_X6_done rfl c5 (w_J19_next D l hl x3 h3 e8) (wA_l q972) (by decide +kernel) q456 q458 q101 q460 hy_111 ⟨Nat.le_of_ble_eq_true rfl, Nat.le_of_ble_eq_true rfl⟩ rfl rfl (Nat.le_of_ble_eq_true rfl) dX6_done_22 rfl (kS ?_) kN
      obtain ⟨c9, e⟩ := gd_of e
      refine v_cast (pc' := 30) (ci := 3) hc_X6_done ho_X6_done rfl q973 (Or.inr q1000) dX6_done_27 rfl c9 ?_
      refine v_astore (pc' := 32) (lv' := [(4, .ref r6), (1, .ref x1), (2, .int x2), (3, .ref x3)]) hc_X6_done dX6_done_30 rfl (Nat.le_of_ble_eq_true rfl) rfl ?_
      refine v_aload (pc' := 34) hc_X6_done dX6_done_32 rfl 0 rfl ?_
      refine v_aload_n (pc' := 35) hc_X6_done dX6_done_34 rfl rfl 1 rfl ?_
      refine v_iload_n (pc' := 36) hc_X6_done dX6_done_35 rfl rfl 2 rfl ?_
      rcases bdX_of e with ⟨r10, h11, e12, e⟩ | ⟨zq13, h11, e12, e⟩
      · refine k_SX (pc' := 39) (x := ⟨"BlockPapers$All", "does", "(LBlockPapers$Deed;LBlockPapers$Workshop;I)V"⟩) (n := 3) hc_X6_done ho_X6_done (w_X6_does D l hl r6 x1 x2 h7 e12) (wA_l q974) q975 q103 q976 hy_113 ⟨Nat.le_of_ble_eq_true rfl, Nat.le_of_ble_eq_true rfl⟩ rfl rfl (Nat.le_of_ble_eq_true rfl) dX6_done_36 rfl (kU ?_) kN
        refine v_iinc (pc' := 42) (lv' := [(2, .int (x2 + 1)), (4, .ref r6), (1, .ref x1), (3, .ref x3)]) (v := x2 + 1) hc_X6_done dX6_done_39 rfl 2 rfl rfl (Nat.le_of_ble_eq_true rfl) rfl ?_
        refine v_goto (pt := 12) hc_X6_done dX6_done_42 rfl ?_
        refine v_pick [2, 0, 3] rfl ?_
        exact IH x1 (x2 + 1) x3 h11 e
      · refine k_SX (pc' := 39) (x := ⟨"BlockPapers$All", "does", "(LBlockPapers$Deed;LBlockPapers$Workshop;I)V"⟩) (n := 3) hc_X6_done ho_X6_done (w_X6_does D l hl r6 x1 x2 h7 e12) (wA_l q974) q975 q103 q976 hy_113 ⟨Nat.le_of_ble_eq_true rfl, Nat.le_of_ble_eq_true rfl⟩ rfl rfl (Nat.le_of_ble_eq_true rfl) dX6_done_36 rfl kM (kX ?_)
        exact v_outA (hp_X6_done _) rfl rfl e
def f_X6_done (x0 : Nat) (x1 : Nat) (h : AH) : Option ((Int32 ⊕ Nat) × AH) :=
  bd (gtR h 5 x0 0) fun v1 =>
  gd (isC h 16 v1) <|
  bd2 (f_J2_iterator v1 h) fun r3 h4 =>
  f_X6_done_l12 NN x1 (0 : Int32) r3 h4
theorem v_X6_done (D : va_G) (l : Launch) (hl : l.stackTraces = false) (as : List Value) (h0 : AH) {r : (Int32 ⊕ Nat)} {hF : AH} (x0 : Nat) (x1 : Nat) (h : AH) (e : f_X6_done x0 x1 h = some (r, hF)) : V (G_X6_done D l as h0 hF ((oX oI) r)) h 0 [(0, .ref x0), (1, .ref x1)] [] := by
  unfold f_X6_done at e
  refine v_iconst (pc' := 1) (v := 0) hc_X6_done dX6_done_0 rfl rfl ?_
  refine v_istore_n (pc' := 2) (lv' := [(2, .int (0 : Int32)), (0, .ref x0), (1, .ref x1)]) hc_X6_done dX6_done_1 rfl rfl (Nat.le_of_ble_eq_true rfl) rfl ?_
  refine v_aload_n (pc' := 3) hc_X6_done dX6_done_2 rfl rfl 1 rfl ?_
  refine v_gfR (pc' := 6) hc_X6_done ho_X6_done KX6 0 (Nat.le_of_ble_eq_true rfl) q2166 (Or.inl rfl) dX6_done_3 rfl e (fun v1 _ e => ?_)
  obtain ⟨c2, e⟩ := gd_of e
  obtain ⟨r3, h4, e5, e⟩ := bd2_of e
  refine k_F (pc' := 11) (x := ⟨"java/util/List", "iterator", "()Ljava/util/Iterator;"⟩) (y := ⟨"java/util/ArrayList", "iterator", "()Ljava/util/Iterator;"⟩) (ci := 16) (n := 0) hc_X6_done ho_X6_done rfl c2 (w_J2_iterator D l hl v1 h e5) (wA_l q968) (by decide +kernel) q361 q363 q79 q365 hy_108 ⟨Nat.le_of_ble_eq_true rfl, Nat.le_of_ble_eq_true rfl⟩ rfl rfl (Nat.le_of_ble_eq_true rfl) dX6_done_6 rfl (kS ?_) kN
  refine v_astore_n (pc' := 12) (lv' := [(3, .ref r3), (2, .int (0 : Int32)), (0, .ref x0), (1, .ref x1)]) hc_X6_done dX6_done_11 rfl rfl (Nat.le_of_ble_eq_true rfl) rfl ?_
  refine v_pick [3, 1, 0] rfl ?_
  exact w_X6_done_l12 D l hl as h0 NN x1 (0 : Int32) r3 h4 e
theorem w_X6_done (D : va_G) (l : Launch) (hl : l.stackTraces = false) (x0 : Nat) (x1 : Nat) (h : AH) {r : (Int32 ⊕ Nat)} {hF : AH} (e : f_X6_done x0 x1 h = some (r, hF)) : MetV D l yX6_done (Cond.code yX6_done cX6_done 5 (Option.some .int)) 12 297 [.ref x0, .ref x1] h hF ((oX oI) r) :=
  met_ofF (by decide +kernel) hl (Nat.le_of_ble_eq_true rfl) rfl (v_X6_done D l hl [.ref x0, .ref x1] h x0 x1 h e)
/-! BlockPapers.change(LBlockPapers$Deed;)I  -/
abbrev G_X1_change (D : va_G) (l : Launch) (as : List Value) (h0 hF : AH) (o : Out) : CT := (D, l, (yX1_change.cls, yX1_change, cX1_change, 4, (Option.some .int), 13, 321, [(5, 19, 20, 16)]), as, h0, hF, o)
theorem hc_X1_change {D : va_G} {l : Launch} {as : List Value} {h0 hF : AH} {o : Out} : gC (G_X1_change D l as h0 hF o) = cX1_change := rfl
theorem ho_X1_change {D : va_G} {l : Launch} {as : List Value} {h0 hF : AH} {o : Out} : gO (G_X1_change D l as h0 hF o) = "BlockPapers" := rfl
def f_X1_change (x0 : Nat) (x1 : Nat) (h : AH) : Option ((Int32 ⊕ Nat) × AH) :=
  gd (isC h 0 x0) <|
  bd2 (f_X1_draft x0 h) fun r2 h3 =>
  if isC h3 3 x1 = true then (
    bdX (f_X4_done x1 r2 h3) (fun zq13 h7 =>
      if isX h7 6 zq13 = true then (
        bd (stF h7 0 x0 5 (.ref zq13)) fun h14 =>
        bd2 (nwX h14 26 6 []) fun a16 h15 =>
        outX h15 a16
      ) else (
      if isX h7 21 zq13 = true then (
        outX h7 zq13
      ) else (
      if isX h7 22 zq13 = true then (
        outX h7 zq13
      ) else (
      none)))
    ) fun r6 h7 =>
    gd (isC h7 0 x0) <|
    bd2 (f_X1_replace x0 r2 h7) fun r10 h11 =>
    some (.inl r6, h11)
  ) else (
  if isC h3 5 x1 = true then (
    bdX (f_X6_done x1 r2 h3) (fun zq28 h22 =>
      if isX h22 6 zq28 = true then (
        bd (stF h22 0 x0 5 (.ref zq28)) fun h29 =>
        bd2 (nwX h29 26 6 []) fun a31 h30 =>
        outX h30 a31
      ) else (
      if isX h22 21 zq28 = true then (
        outX h22 zq28
      ) else (
      if isX h22 22 zq28 = true then (
        outX h22 zq28
      ) else (
      none)))
    ) fun r21 h22 =>
    gd (isC h22 0 x0) <|
    bd2 (f_X1_replace x0 r2 h22) fun r25 h26 =>
    some (.inl r21, h26)
  ) else (
  none))
theorem v_X1_change (D : va_G) (l : Launch) (hl : l.stackTraces = false) (as : List Value) (h0 : AH) {r : (Int32 ⊕ Nat)} {hF : AH} (x0 : Nat) (x1 : Nat) (h : AH) (e : f_X1_change x0 x1 h = some (r, hF)) : V (G_X1_change D l as h0 hF ((oX oI) r)) h 0 [(0, .ref x0), (1, .ref x1)] [] := by
  unfold f_X1_change at e
  refine v_aload_n (pc' := 1) hc_X1_change dX1_change_0 rfl rfl 0 rfl ?_
  obtain ⟨c1, e⟩ := gd_of e
  obtain ⟨r2, h3, e4, e⟩ := bd2_of e
  refine k_V (pc' := 4) (ci := 0) (n := 0) hc_X1_change ho_X1_change rfl c1 (w_X1_draft D l hl x0 h e4) (wA_l q555) q557 (wA_l qs3) q75 q558 hy_30 ⟨Nat.le_of_ble_eq_true rfl, Nat.le_of_ble_eq_true rfl⟩ rfl rfl (Nat.le_of_ble_eq_true rfl) dX1_change_1 rfl (kS ?_) kN
  refine v_astore_n (pc' := 5) (lv' := [(2, .ref r2), (0, .ref x0), (1, .ref x1)]) hc_X1_change dX1_change_4 rfl rfl (Nat.le_of_ble_eq_true rfl) rfl ?_
  refine v_aload_n (pc' := 6) hc_X1_change dX1_change_5 rfl rfl 2 rfl ?_
  refine v_aload_n (pc' := 7) hc_X1_change dX1_change_6 rfl rfl 0 rfl ?_
  rcases ite_cs e with ⟨c5, e⟩ | ⟨_, e⟩
  · rcases bdX_of e with ⟨r6, h7, e8, e⟩ | ⟨zq13, h7, e8, e⟩
    · refine k_F (pc' := 12) (x := ⟨"BlockPapers$Deed", "done", "(LBlockPapers$Workshop;)I"⟩) (y := ⟨"BlockPapers$Named", "done", "(LBlockPapers$Workshop;)I"⟩) (ci := 3) (n := 1) hc_X1_change ho_X1_change rfl c5 (w_X4_done D l hl x1 r2 h3 e8) (wA_l q958) (by decide +kernel) q1001 q1003 q86 q1005 hy_95 ⟨Nat.le_of_ble_eq_true rfl, Nat.le_of_ble_eq_true rfl⟩ rfl rfl (Nat.le_of_ble_eq_true rfl) dX1_change_7 rfl (kS ?_) kN
      refine v_istore_n (pc' := 13) (lv' := [(3, .int r6), (2, .ref r2), (0, .ref x0), (1, .ref x1)]) hc_X1_change dX1_change_12 rfl rfl (Nat.le_of_ble_eq_true rfl) rfl ?_
      refine v_aload_n (pc' := 14) hc_X1_change dX1_change_13 rfl rfl 2 rfl ?_
      refine v_aload_n (pc' := 15) hc_X1_change dX1_change_14 rfl rfl 1 rfl ?_
      obtain ⟨c9, e⟩ := gd_of e
      obtain ⟨r10, h11, e12, e⟩ := bd2_of e
      refine k_V (pc' := 18) (ci := 0) (n := 1) hc_X1_change ho_X1_change rfl c9 (w_X1_replace D l hl x0 r2 h7 e12) (wA_l q1484) q1486 (wA_l qs14) q75 q1487 hy_106 ⟨Nat.le_of_ble_eq_true rfl, Nat.le_of_ble_eq_true rfl⟩ rfl rfl (Nat.le_of_ble_eq_true rfl) dX1_change_15 rfl (kU ?_) kN
      refine v_iload_n (pc' := 19) hc_X1_change dX1_change_18 rfl rfl 0 rfl ?_
      obtain ⟨rfl, rfl⟩ := ret_of e
      exact v_iret hc_X1_change rfl dX1_change_19 rfl rfl
    · refine k_F (pc' := 12) (x := ⟨"BlockPapers$Deed", "done", "(LBlockPapers$Workshop;)I"⟩) (y := ⟨"BlockPapers$Named", "done", "(LBlockPapers$Workshop;)I"⟩) (ci := 3) (n := 1) hc_X1_change ho_X1_change rfl c5 (w_X4_done D l hl x1 r2 h3 e8) (wA_l q958) (by decide +kernel) q1001 q1003 q86 q1005 hy_95 ⟨Nat.le_of_ble_eq_true rfl, Nat.le_of_ble_eq_true rfl⟩ rfl rfl (Nat.le_of_ble_eq_true rfl) dX1_change_7 rfl kM (kX ?_)
      rcases ite_cs e with ⟨c17, e⟩ | ⟨_, e⟩
      · refine v_catchH (ci := 6) (nm := "BlockPapers$Failure") (pre := []) (x := (5, 19, 20, 16)) (suf := []) ho_X1_change c17 rfl rfl (by decide) (by decide) hpN q956 q1094 ?_
        refine v_astore_n (pc' := 21) (lv' := [(3, .ref zq13), (2, .ref r2), (0, .ref x0), (1, .ref x1)]) hc_X1_change dX1_change_20 rfl rfl (Nat.le_of_ble_eq_true rfl) rfl ?_
        refine v_aload_n (pc' := 22) hc_X1_change dX1_change_21 rfl rfl 2 rfl ?_
        refine v_aload_n (pc' := 23) hc_X1_change dX1_change_22 rfl rfl 0 rfl ?_
        refine v_pf (pc' := 26) hc_X1_change ho_X1_change KX1 5 (Nat.le_of_ble_eq_true rfl) q241 (Or.inl rfl) rfl dX1_change_23 rfl rfl rfl e (fun h14 _ e => ?_)
        refine v_makeX (pc' := 33) (ci := 26) (names := ["java/lang/RuntimeException", "java/lang/Exception"]) hc_X1_change ho_X1_change hl (by decide +kernel) (by decide +kernel) q1539 q114 (by decide +kernel) rfl (by decide) ⟨Nat.le_of_ble_eq_true rfl, Nat.le_of_ble_eq_true rfl⟩ dX1_change_26 dX1_change_29 dX1_change_30 rfl e (fun a16 h15 _ e => ?_)
        refine v_athrow hc_X1_change dX1_change_33 ?_
        exact v_outA (hpC (by decide) hpN) rfl rfl e
      rcases ite_cs e with ⟨c18, e⟩ | ⟨_, e⟩
      · exact v_outB (ci := 21) ho_X1_change rfl (isX_c c18) (hpC (Or.inr ⟨by decide, "BlockPapers$Failure", q956, by decide +kernel⟩) hpN) rfl rfl e
      rcases ite_cs e with ⟨c19, e⟩ | ⟨_, e⟩
      · exact v_outB (ci := 22) ho_X1_change rfl (isX_c c19) (hpC (Or.inr ⟨by decide, "BlockPapers$Failure", q956, by decide +kernel⟩) hpN) rfl rfl e
      exact nomatch e
  rcases ite_cs e with ⟨c20, e⟩ | ⟨_, e⟩
  · rcases bdX_of e with ⟨r21, h22, e23, e⟩ | ⟨zq28, h22, e23, e⟩
    · refine k_F (pc' := 12) (x := ⟨"BlockPapers$Deed", "done", "(LBlockPapers$Workshop;)I"⟩) (y := ⟨"BlockPapers$All", "done", "(LBlockPapers$Workshop;)I"⟩) (ci := 5) (n := 1) hc_X1_change ho_X1_change rfl c20 (w_X6_done D l hl x1 r2 h3 e23) (wA_l q958) (by decide +kernel) q962 q964 q103 q966 hy_95 ⟨Nat.le_of_ble_eq_true rfl, Nat.le_of_ble_eq_true rfl⟩ rfl rfl (Nat.le_of_ble_eq_true rfl) dX1_change_7 rfl (kS ?_) kN
      refine v_istore_n (pc' := 13) (lv' := [(3, .int r21), (2, .ref r2), (0, .ref x0), (1, .ref x1)]) hc_X1_change dX1_change_12 rfl rfl (Nat.le_of_ble_eq_true rfl) rfl ?_
      refine v_aload_n (pc' := 14) hc_X1_change dX1_change_13 rfl rfl 2 rfl ?_
      refine v_aload_n (pc' := 15) hc_X1_change dX1_change_14 rfl rfl 1 rfl ?_
      obtain ⟨c24, e⟩ := gd_of e
      obtain ⟨r25, h26, e27, e⟩ := bd2_of e
      refine k_V (pc' := 18) (ci := 0) (n := 1) hc_X1_change ho_X1_change rfl c24 (w_X1_replace D l hl x0 r2 h22 e27) (wA_l q1484) q1486 (wA_l qs14) q75 q1487 hy_106 ⟨Nat.le_of_ble_eq_true rfl, Nat.le_of_ble_eq_true rfl⟩ rfl rfl (Nat.le_of_ble_eq_true rfl) dX1_change_15 rfl (kU ?_) kN
      refine v_iload_n (pc' := 19) hc_X1_change dX1_change_18 rfl rfl 0 rfl ?_
      obtain ⟨rfl, rfl⟩ := ret_of e
      exact v_iret hc_X1_change rfl dX1_change_19 rfl rfl
    · refine k_F (pc' := 12) (x := ⟨"BlockPapers$Deed", "done", "(LBlockPapers$Workshop;)I"⟩) (y := ⟨"BlockPapers$All", "done", "(LBlockPapers$Workshop;)I"⟩) (ci := 5) (n := 1) hc_X1_change ho_X1_change rfl c20 (w_X6_done D l hl x1 r2 h3 e23) (wA_l q958) (by decide +kernel) q962 q964 q103 q966 hy_95 ⟨Nat.le_of_ble_eq_true rfl, Nat.le_of_ble_eq_true rfl⟩ rfl rfl (Nat.le_of_ble_eq_true rfl) dX1_change_7 rfl kM (kX ?_)
      rcases ite_cs e with ⟨c32, e⟩ | ⟨_, e⟩
      · refine v_catchH (ci := 6) (nm := "BlockPapers$Failure") (pre := []) (x := (5, 19, 20, 16)) (suf := []) ho_X1_change c32 rfl rfl (by decide) (by decide) hpN q956 q1094 ?_
        refine v_astore_n (pc' := 21) (lv' := [(3, .ref zq28), (2, .ref r2), (0, .ref x0), (1, .ref x1)]) hc_X1_change dX1_change_20 rfl rfl (Nat.le_of_ble_eq_true rfl) rfl ?_
        refine v_aload_n (pc' := 22) hc_X1_change dX1_change_21 rfl rfl 2 rfl ?_
        refine v_aload_n (pc' := 23) hc_X1_change dX1_change_22 rfl rfl 0 rfl ?_
        refine v_pf (pc' := 26) hc_X1_change ho_X1_change KX1 5 (Nat.le_of_ble_eq_true rfl) q241 (Or.inl rfl) rfl dX1_change_23 rfl rfl rfl e (fun h29 _ e => ?_)
        refine v_makeX (pc' := 33) (ci := 26) (names := ["java/lang/RuntimeException", "java/lang/Exception"]) hc_X1_change ho_X1_change hl (by decide +kernel) (by decide +kernel) q1539 q114 (by decide +kernel) rfl (by decide) ⟨Nat.le_of_ble_eq_true rfl, Nat.le_of_ble_eq_true rfl⟩ dX1_change_26 dX1_change_29 dX1_change_30 rfl e (fun a31 h30 _ e => ?_)
        refine v_athrow hc_X1_change dX1_change_33 ?_
        exact v_outA (hpC (by decide) hpN) rfl rfl e
      rcases ite_cs e with ⟨c33, e⟩ | ⟨_, e⟩
      · exact v_outB (ci := 21) ho_X1_change rfl (isX_c c33) (hpC (Or.inr ⟨by decide, "BlockPapers$Failure", q956, by decide +kernel⟩) hpN) rfl rfl e
      rcases ite_cs e with ⟨c34, e⟩ | ⟨_, e⟩
      · exact v_outB (ci := 22) ho_X1_change rfl (isX_c c34) (hpC (Or.inr ⟨by decide, "BlockPapers$Failure", q956, by decide +kernel⟩) hpN) rfl rfl e
      exact nomatch e
  exact nomatch e
theorem w_X1_change (D : va_G) (l : Launch) (hl : l.stackTraces = false) (x0 : Nat) (x1 : Nat) (h : AH) {r : (Int32 ⊕ Nat)} {hF : AH} (e : f_X1_change x0 x1 h = some (r, hF)) : MetV D l yX1_change (Cond.codeWith yX1_change cX1_change 4 (Option.some .int) [(5, 19, 20, 16)]) 13 321 [.ref x0, .ref x1] h hF ((oX oI) r) :=
  met_ofHF (by decide +kernel) hl (Nat.le_of_ble_eq_true rfl) rfl (v_X1_change D l hl [.ref x0, .ref x1] h x0 x1 h e)
/-! BlockPapers.block(IZ)I  -/
abbrev G_X1_block (D : va_G) (l : Launch) (as : List Value) (h0 hF : AH) (o : Out) : CT := (D, l, (yX1_block.cls, yX1_block, cX1_block, 3, (Option.some .int), 14, 344, []), as, h0, hF, o)
theorem hc_X1_block {D : va_G} {l : Launch} {as : List Value} {h0 hF : AH} {o : Out} : gC (G_X1_block D l as h0 hF o) = cX1_block := rfl
theorem ho_X1_block {D : va_G} {l : Launch} {as : List Value} {h0 hF : AH} {o : Out} : gO (G_X1_block D l as h0 hF o) = "BlockPapers" := rfl
theorem hp_X1_block {D : va_G} {l : Launch} {as : List Value} {h0 hF : AH} {o : Out} (pc : Nat) : ∀ z ∈ tableOf (gHd (G_X1_block D l as h0 hF o)), covers z pc = false := hpN
def f_X1_block (x0 : Nat) (x1 : Int32) (x2 : Int32) (h : AH) : Option ((Int32 ⊕ Nat) × AH) :=
  bd2 (nwX h 3 4 fsX4) fun a2 h1 =>
  bd (aE h1 101) fun v3 =>
  if x2 = 0 then (
    bd2 (f_X4_init a2 v3 x1 (0 : Int32) h1) fun r4 h5 =>
    gd (isC h5 0 x0) <|
    bdX (f_X1_change x0 a2 h5) (fun zq11 h9 =>
      outX h9 zq11
    ) fun r8 h9 =>
    some (.inl r8, h9)
  ) else (
    bd2 (f_X4_init a2 v3 x1 (1 : Int32) h1) fun r12 h13 =>
    gd (isC h13 0 x0) <|
    bdX (f_X1_change x0 a2 h13) (fun zq19 h17 =>
      outX h17 zq19
    ) fun r16 h17 =>
    some (.inl r16, h17)
  )
theorem v_X1_block (D : va_G) (l : Launch) (hl : l.stackTraces = false) (as : List Value) (h0 : AH) {r : (Int32 ⊕ Nat)} {hF : AH} (x0 : Nat) (x1 : Int32) (x2 : Int32) (h : AH) (e : f_X1_block x0 x1 x2 h = some (r, hF)) : V (G_X1_block D l as h0 hF ((oX oI) r)) h 0 [(0, .ref x0), (1, .int x1), (2, .int x2)] [] := by
  unfold f_X1_block at e
  refine v_aload_n (pc' := 1) hc_X1_block dX1_block_0 rfl rfl 0 rfl ?_
  refine v_newX (pc' := 4) hc_X1_block ho_X1_block KX4 q929 q930 q86 rfl dfX4 dX1_block_1 rfl e (fun a2 h1 _ e => ?_)
  refine v_dup (pc' := 5) hc_X1_block dX1_block_4 rfl rfl ?_
  refine v_ldcS (pc' := 7) (tx := "block") (j := 101) hc_X1_block ho_X1_block (by decide +kernel) dX1_block_5 rfl e (fun v3 _ e => ?_)
  refine v_iload_n (pc' := 8) hc_X1_block dX1_block_7 rfl rfl 1 rfl ?_
  refine v_iload_n (pc' := 9) hc_X1_block dX1_block_8 rfl rfl 2 rfl ?_
  refine v_if_eq (pt := 16) (pf := 12) hc_X1_block dX1_block_9 rfl rfl e (fun _ e => ?_) (fun _ e => ?_)
  · refine v_iconst (pc' := 17) (v := 0) hc_X1_block dX1_block_16 rfl rfl ?_
    obtain ⟨r4, h5, e6, e⟩ := bd2_of e
    refine k_I (pc' := 20) (n := 3) hc_X1_block ho_X1_block (w_X4_init D l hl a2 v3 x1 (0 : Int32) h1 e6) (wA_l q932) q933 q86 q934 rfl hy_10 ⟨Nat.le_of_ble_eq_true rfl, Nat.le_of_ble_eq_true rfl⟩ rfl rfl (Nat.le_of_ble_eq_true rfl) dX1_block_17 rfl (kU ?_) kN
    obtain ⟨c7, e⟩ := gd_of e
    rcases bdX_of e with ⟨r8, h9, e10, e⟩ | ⟨zq11, h9, e10, e⟩
    · refine k_VX (pc' := 23) (x := ⟨"BlockPapers", "change", "(LBlockPapers$Deed;)I"⟩) (ci := 0) (n := 1) hc_X1_block ho_X1_block rfl c7 (w_X1_change D l hl x0 a2 h5 e10) (wA_l q952) q954 qs8 q75 q955 hy_114 ⟨Nat.le_of_ble_eq_true rfl, Nat.le_of_ble_eq_true rfl⟩ rfl rfl (Nat.le_of_ble_eq_true rfl) dX1_block_20 rfl (kS ?_) kN
      obtain ⟨rfl, rfl⟩ := ret_of e
      exact v_iret hc_X1_block rfl dX1_block_23 rfl rfl
    · refine k_VX (pc' := 23) (x := ⟨"BlockPapers", "change", "(LBlockPapers$Deed;)I"⟩) (ci := 0) (n := 1) hc_X1_block ho_X1_block rfl c7 (w_X1_change D l hl x0 a2 h5 e10) (wA_l q952) q954 qs8 q75 q955 hy_114 ⟨Nat.le_of_ble_eq_true rfl, Nat.le_of_ble_eq_true rfl⟩ rfl rfl (Nat.le_of_ble_eq_true rfl) dX1_block_20 rfl kM (kX ?_)
      exact v_outA (hp_X1_block _) rfl rfl e
  · refine v_iconst (pc' := 13) (v := 1) hc_X1_block dX1_block_12 rfl rfl ?_
    refine v_goto (pt := 17) hc_X1_block dX1_block_13 rfl ?_
    obtain ⟨r12, h13, e14, e⟩ := bd2_of e
    refine k_I (pc' := 20) (n := 3) hc_X1_block ho_X1_block (w_X4_init D l hl a2 v3 x1 (1 : Int32) h1 e14) (wA_l q932) q933 q86 q934 rfl hy_10 ⟨Nat.le_of_ble_eq_true rfl, Nat.le_of_ble_eq_true rfl⟩ rfl rfl (Nat.le_of_ble_eq_true rfl) dX1_block_17 rfl (kU ?_) kN
    obtain ⟨c15, e⟩ := gd_of e
    rcases bdX_of e with ⟨r16, h17, e18, e⟩ | ⟨zq19, h17, e18, e⟩
    · refine k_VX (pc' := 23) (x := ⟨"BlockPapers", "change", "(LBlockPapers$Deed;)I"⟩) (ci := 0) (n := 1) hc_X1_block ho_X1_block rfl c15 (w_X1_change D l hl x0 a2 h13 e18) (wA_l q952) q954 qs8 q75 q955 hy_114 ⟨Nat.le_of_ble_eq_true rfl, Nat.le_of_ble_eq_true rfl⟩ rfl rfl (Nat.le_of_ble_eq_true rfl) dX1_block_20 rfl (kS ?_) kN
      obtain ⟨rfl, rfl⟩ := ret_of e
      exact v_iret hc_X1_block rfl dX1_block_23 rfl rfl
    · refine k_VX (pc' := 23) (x := ⟨"BlockPapers", "change", "(LBlockPapers$Deed;)I"⟩) (ci := 0) (n := 1) hc_X1_block ho_X1_block rfl c15 (w_X1_change D l hl x0 a2 h13 e18) (wA_l q952) q954 qs8 q75 q955 hy_114 ⟨Nat.le_of_ble_eq_true rfl, Nat.le_of_ble_eq_true rfl⟩ rfl rfl (Nat.le_of_ble_eq_true rfl) dX1_block_20 rfl kM (kX ?_)
      exact v_outA (hp_X1_block _) rfl rfl e
theorem w_X1_block (D : va_G) (l : Launch) (hl : l.stackTraces = false) (x0 : Nat) (x1 : Int32) (x2 : Int32) (h : AH) {r : (Int32 ⊕ Nat)} {hF : AH} (e : f_X1_block x0 x1 x2 h = some (r, hF)) : MetV D l yX1_block (Cond.code yX1_block cX1_block 3 (Option.some .int)) 14 344 [.ref x0, .int x1, .int x2] h hF ((oX oI) r) :=
  met_ofF (by decide +kernel) hl (Nat.le_of_ble_eq_true rfl) rfl (v_X1_block D l hl [.ref x0, .int x1, .int x2] h x0 x1 x2 h e)
/-! BlockPapers.printed(IZ)I  -/
abbrev G_X1_printed (D : va_G) (l : Launch) (as : List Value) (h0 hF : AH) (o : Out) : CT := (D, l, (yX1_printed.cls, yX1_printed, cX1_printed, 6, (Option.some .int), 4, 112, []), as, h0, hF, o)
theorem hc_X1_printed {D : va_G} {l : Launch} {as : List Value} {h0 hF : AH} {o : Out} : gC (G_X1_printed D l as h0 hF o) = cX1_printed := rfl
theorem ho_X1_printed {D : va_G} {l : Launch} {as : List Value} {h0 hF : AH} {o : Out} : gO (G_X1_printed D l as h0 hF o) = "BlockPapers" := rfl
theorem hp_X1_printed {D : va_G} {l : Launch} {as : List Value} {h0 hF : AH} {o : Out} (pc : Nat) : ∀ z ∈ tableOf (gHd (G_X1_printed D l as h0 hF o)), covers z pc = false := hpN
def f_X1_printed_j59 (rec5 : Nat → Int32 → Int32 → Int32 → Int32 → AH → Option (Int32 × AH)) (x0 : Nat) (x1 : Int32) (x2 : Int32) (x4 : Int32) (s0 : Int32) (s1 : Int32) (h : AH) : Option (Int32 × AH) :=
  if s1 = x1 then (
    rec5 x0 x1 x2 (s0 + (1 : Int32)) (x4 + 1) h
  ) else (
    rec5 x0 x1 x2 (s0 + (0 : Int32)) (x4 + 1) h
  )
theorem w_X1_printed_j59 (D : va_G) (l : Launch) (hl : l.stackTraces = false) (as : List Value) (h0 : AH) {r : Int32} {hF : AH} (rec5 : Nat → Int32 → Int32 → Int32 → Int32 → AH → Option (Int32 × AH)) (R5 : ∀ x0 x1 x2 x3 x4 k, rec5 x0 x1 x2 x3 x4 k = some (r, hF) → V (G_X1_printed D l as h0 hF (oI r)) k 5 [(0, .ref x0), (1, .int x1), (2, .int x2), (3, .int x3), (4, .int x4)] []) (x0 : Nat) (x1 : Int32) (x2 : Int32) (x4 : Int32) (s0 : Int32) (s1 : Int32) (h : AH) (e : f_X1_printed_j59 rec5 x0 x1 x2 x4 s0 s1 h = some (r, hF)) : V (G_X1_printed D l as h0 hF (oI r)) h 59 [(0, .ref x0), (1, .int x1), (2, .int x2), (4, .int x4)] [.int s1, .int s0] := by
  unfold f_X1_printed_j59 at e
  refine v_iload_n (pc' := 60) hc_X1_printed dX1_printed_59 rfl rfl 1 rfl ?_
  refine v_icmp_ne (pt := 67) (pf := 63) hc_X1_printed dX1_printed_60 rfl rfl e (fun _ e => ?_) (fun _ e => ?_)
  · refine v_iconst (pc' := 64) (v := 1) hc_X1_printed dX1_printed_63 rfl rfl ?_
    refine v_goto (pt := 68) hc_X1_printed dX1_printed_64 rfl ?_
    refine v_iadd (pc' := 69) hc_X1_printed dX1_printed_68 rfl ?_
    refine v_istore_n (pc' := 70) (lv' := [(3, .int (s0 + (1 : Int32))), (0, .ref x0), (1, .int x1), (2, .int x2), (4, .int x4)]) hc_X1_printed dX1_printed_69 rfl rfl (Nat.le_of_ble_eq_true rfl) rfl ?_
    refine v_iinc (pc' := 73) (lv' := [(4, .int (x4 + 1)), (3, .int (s0 + (1 : Int32))), (0, .ref x0), (1, .int x1), (2, .int x2)]) (v := x4 + 1) hc_X1_printed dX1_printed_70 rfl 4 rfl rfl (Nat.le_of_ble_eq_true rfl) rfl ?_
    refine v_goto (pt := 5) hc_X1_printed dX1_printed_73 rfl ?_
    refine v_pick [2, 3, 4, 1, 0] rfl ?_
    exact R5 x0 x1 x2 (s0 + (1 : Int32)) (x4 + 1) h e
  · refine v_iconst (pc' := 68) (v := 0) hc_X1_printed dX1_printed_67 rfl rfl ?_
    refine v_iadd (pc' := 69) hc_X1_printed dX1_printed_68 rfl ?_
    refine v_istore_n (pc' := 70) (lv' := [(3, .int (s0 + (0 : Int32))), (0, .ref x0), (1, .int x1), (2, .int x2), (4, .int x4)]) hc_X1_printed dX1_printed_69 rfl rfl (Nat.le_of_ble_eq_true rfl) rfl ?_
    refine v_iinc (pc' := 73) (lv' := [(4, .int (x4 + 1)), (3, .int (s0 + (0 : Int32))), (0, .ref x0), (1, .int x1), (2, .int x2)]) (v := x4 + 1) hc_X1_printed dX1_printed_70 rfl 4 rfl rfl (Nat.le_of_ble_eq_true rfl) rfl ?_
    refine v_goto (pt := 5) hc_X1_printed dX1_printed_73 rfl ?_
    refine v_pick [2, 3, 4, 1, 0] rfl ?_
    exact R5 x0 x1 x2 (s0 + (0 : Int32)) (x4 + 1) h e
def fb_X1_printed_l5 (rec : Nat → Int32 → Int32 → Int32 → Int32 → AH → Option (Int32 × AH)) (x0 : Nat) (x1 : Int32) (x2 : Int32) (x3 : Int32) (x4 : Int32) (h : AH) : Option (Int32 × AH) :=
  bd (gtR h 0 x0 0) fun v1 =>
  bd (gtR h 1 v1 2) fun v2 =>
  gd (isC h 16 v2) <|
  bd2 (f_J2_size v2 h) fun r4 h5 =>
  if r4 ≤ x4 then (
    some (x3, h5)
  ) else (
    bd (gtR h5 0 x0 0) fun v7 =>
    bd (gtR h5 1 v7 2) fun v8 =>
    gd (isC h5 16 v8) <|
    bd2 (f_J2_get v8 x4 h5) fun r10 h11 =>
    gd (isC h11 9 r10) <|
    if x2 = 0 then (
      bd (gtI h11 9 r10 1) fun v14 =>
      f_X1_printed_j59 rec x0 x1 x2 x4 x3 v14 h11
    ) else (
      bd (gtI h11 9 r10 0) fun v15 =>
      f_X1_printed_j59 rec x0 x1 x2 x4 x3 v15 h11
    )
  )
def f_X1_printed_l5 : Nat → Nat → Int32 → Int32 → Int32 → Int32 → AH → Option (Int32 × AH)
  | 0 => fun _ _ _ _ _ _ => none
  | n + 1 => fb_X1_printed_l5 (f_X1_printed_l5 n) 
theorem w_X1_printed_l5 (D : va_G) (l : Launch) (hl : l.stackTraces = false) (as : List Value) (h0 : AH) {r : Int32} {hF : AH} : ∀ (n : Nat) (x0 : Nat) (x1 : Int32) (x2 : Int32) (x3 : Int32) (x4 : Int32) (h : AH), f_X1_printed_l5 n x0 x1 x2 x3 x4 h = some (r, hF) → V (G_X1_printed D l as h0 hF (oI r)) h 5 [(0, .ref x0), (1, .int x1), (2, .int x2), (3, .int x3), (4, .int x4)] [] := by
  intro n; induction n with
  | zero => intro x0 x1 x2 x3 x4 h e; exact absurd (show (none : Option (Int32 × AH)) = some _ from e) (fun z => nomatch z)
  | succ n IH =>
    intro x0 x1 x2 x3 x4 h e
    have e : fb_X1_printed_l5 (f_X1_printed_l5 n) x0 x1 x2 x3 x4 h = some (r, hF) := e
    unfold fb_X1_printed_l5 at e
    refine v_iload (pc' := 7) hc_X1_printed dX1_printed_5 rfl 4 rfl ?_
    refine v_aload_n (pc' := 8) hc_X1_printed dX1_printed_7 rfl rfl 0 rfl ?_
    refine v_gfR (pc' := 11) hc_X1_printed ho_X1_printed KX1 0 (Nat.le_of_ble_eq_true rfl) q235 (Or.inl rfl) dX1_printed_8 rfl e (fun v1 _ e => ?_)
    refine v_gnR (pc' := 14) hc_X1_printed ho_X1_printed KX2 2 (Nat.le_of_ble_eq_true rfl) q170 rfl dX1_printed_11 rfl e (fun v2 _ e => ?_)
    obtain ⟨c3, e⟩ := gd_of e
    obtain ⟨r4, h5, e6, e⟩ := bd2_of e
    refine k_F (pc' := 19) (x := ⟨"java/util/List", "size", "()I"⟩) (y := ⟨"java/util/ArrayList", "size", "()I"⟩) (ci := 16) (n := 0) hc_X1_printed ho_X1_printed rfl c3 (w_J2_size D l hl v2 h e6) (wA_l q344) (by decide +kernel) q348 q350 q79 q352 hy_19 ⟨Nat.le_of_ble_eq_true rfl, Nat.le_of_ble_eq_true rfl⟩ rfl rfl (Nat.le_of_ble_eq_true rfl) dX1_printed_14 rfl (kS ?_) kN
    refine v_icmp_ge (pt := 76) (pf := 22) hc_X1_printed dX1_printed_19 rfl rfl e (fun _ e => ?_) (fun _ e => ?_)
    · refine v_iload_n (pc' := 77) hc_X1_printed dX1_printed_76 rfl rfl 3 rfl ?_
      obtain ⟨rfl, rfl⟩ := ret_of e
      exact v_iret hc_X1_printed rfl dX1_printed_77 rfl rfl
    · refine v_aload_n (pc' := 23) hc_X1_printed dX1_printed_22 rfl rfl 0 rfl ?_
      refine v_gfR (pc' := 26) hc_X1_printed ho_X1_printed KX1 0 (Nat.le_of_ble_eq_true rfl) q235 (Or.inl rfl) dX1_printed_23 rfl e (fun v7 _ e => ?_)
      refine v_gnR (pc' := 29) hc_X1_printed ho_X1_printed KX2 2 (Nat.le_of_ble_eq_true rfl) q170 rfl dX1_printed_26 rfl e (fun v8 _ e => ?_)
      refine v_iload (pc' := 31) hc_X1_printed dX1_printed_29 rfl 4 rfl ?_
      obtain ⟨c9, e⟩ := gd_of e
      obtain ⟨r10, h11, e12, e⟩ := bd2_of e
      refine k_F (pc' := 36) (x := ⟨"java/util/List", "get", "(I)Ljava/lang/Object;"⟩) (y := ⟨"java/util/ArrayList", "get", "(I)Ljava/lang/Object;"⟩) (ci := 16) (n := 1) hc_X1_printed ho_X1_printed rfl c9 (w_J2_get D l hl v8 x4 h5 e12) (wA_l q1568) (by decide +kernel) q401 q403 q79 q405 hy_23 ⟨Nat.le_of_ble_eq_true rfl, Nat.le_of_ble_eq_true rfl⟩ rfl rfl (Nat.le_of_ble_eq_true rfl) dX1_printed_31 rfl (kS ?_) kN
      obtain ⟨c13, e⟩ := gd_of e
      refine v_cast (pc' := 39) (ci := 9) hc_X1_printed ho_X1_printed rfl q467 (Or.inl rfl) dX1_printed_36 rfl c13 ?_
      refine v_astore (pc' := 41) (lv' := [(5, .ref r10), (0, .ref x0), (1, .int x1), (2, .int x2), (3, .int x3), (4, .int x4)]) hc_X1_printed dX1_printed_39 rfl (Nat.le_of_ble_eq_true rfl) rfl ?_
      refine v_iload_n (pc' := 42) hc_X1_printed dX1_printed_41 rfl rfl 4 rfl ?_
      refine v_iload_n (pc' := 43) hc_X1_printed dX1_printed_42 rfl rfl 3 rfl ?_
      refine v_if_eq (pt := 54) (pf := 46) hc_X1_printed dX1_printed_43 rfl rfl e (fun _ e => ?_) (fun _ e => ?_)
      · refine v_aload (pc' := 56) hc_X1_printed dX1_printed_54 rfl 0 rfl ?_
        refine v_gnI (pc' := 59) hc_X1_printed ho_X1_printed KX10 1 (Nat.le_of_ble_eq_true rfl) q1244 rfl dX1_printed_56 rfl e (fun v14 _ e => ?_)
        refine v_pick [1, 2, 3, 5] rfl ?_
        exact w_X1_printed_j59 D l hl as h0 (f_X1_printed_l5 n) IH x0 x1 x2 x4 x3 v14 h11 e
      · refine v_aload (pc' := 48) hc_X1_printed dX1_printed_46 rfl 0 rfl ?_
        refine v_gnI (pc' := 51) hc_X1_printed ho_X1_printed KX10 0 (Nat.le_of_ble_eq_true rfl) q1241 rfl dX1_printed_48 rfl e (fun v15 _ e => ?_)
        refine v_goto (pt := 59) hc_X1_printed dX1_printed_51 rfl ?_
        refine v_pick [1, 2, 3, 5] rfl ?_
        exact w_X1_printed_j59 D l hl as h0 (f_X1_printed_l5 n) IH x0 x1 x2 x4 x3 v15 h11 e
def f_X1_printed (x0 : Nat) (x1 : Int32) (x2 : Int32) (h : AH) : Option (Int32 × AH) :=
  f_X1_printed_l5 NN x0 x1 x2 (0 : Int32) (0 : Int32) h
theorem v_X1_printed (D : va_G) (l : Launch) (hl : l.stackTraces = false) (as : List Value) (h0 : AH) {r : Int32} {hF : AH} (x0 : Nat) (x1 : Int32) (x2 : Int32) (h : AH) (e : f_X1_printed x0 x1 x2 h = some (r, hF)) : V (G_X1_printed D l as h0 hF (oI r)) h 0 [(0, .ref x0), (1, .int x1), (2, .int x2)] [] := by
  unfold f_X1_printed at e
  refine v_iconst (pc' := 1) (v := 0) hc_X1_printed dX1_printed_0 rfl rfl ?_
  refine v_istore_n (pc' := 2) (lv' := [(3, .int (0 : Int32)), (0, .ref x0), (1, .int x1), (2, .int x2)]) hc_X1_printed dX1_printed_1 rfl rfl (Nat.le_of_ble_eq_true rfl) rfl ?_
  refine v_iconst (pc' := 3) (v := 0) hc_X1_printed dX1_printed_2 rfl rfl ?_
  refine v_istore (pc' := 5) (lv' := [(4, .int (0 : Int32)), (3, .int (0 : Int32)), (0, .ref x0), (1, .int x1), (2, .int x2)]) hc_X1_printed dX1_printed_3 rfl (Nat.le_of_ble_eq_true rfl) rfl ?_
  refine v_pick [2, 3, 4, 1, 0] rfl ?_
  exact w_X1_printed_l5 D l hl as h0 NN x0 x1 x2 (0 : Int32) (0 : Int32) h e
theorem w_X1_printed (D : va_G) (l : Launch) (hl : l.stackTraces = false) (x0 : Nat) (x1 : Int32) (x2 : Int32) (h : AH) {r : Int32} {hF : AH} (e : f_X1_printed x0 x1 x2 h = some (r, hF)) : MetV D l yX1_printed (Cond.code yX1_printed cX1_printed 6 (Option.some .int)) 4 112 [.ref x0, .int x1, .int x2] h hF (oI r) :=
  met_ofF (by decide +kernel) hl (Nat.le_of_ble_eq_true rfl) rfl (v_X1_printed D l hl [.ref x0, .int x1, .int x2] h x0 x1 x2 h e)
/-! BlockPapers.blockOf(II)I  -/
abbrev G_X1_blockOf (D : va_G) (l : Launch) (as : List Value) (h0 hF : AH) (o : Out) : CT := (D, l, (yX1_blockOf.cls, yX1_blockOf, cX1_blockOf, 4, (Option.some .int), 8, 137, []), as, h0, hF, o)
theorem hc_X1_blockOf {D : va_G} {l : Launch} {as : List Value} {h0 hF : AH} {o : Out} : gC (G_X1_blockOf D l as h0 hF o) = cX1_blockOf := rfl
theorem ho_X1_blockOf {D : va_G} {l : Launch} {as : List Value} {h0 hF : AH} {o : Out} : gO (G_X1_blockOf D l as h0 hF o) = "BlockPapers" := rfl
theorem hp_X1_blockOf {D : va_G} {l : Launch} {as : List Value} {h0 hF : AH} {o : Out} (pc : Nat) : ∀ z ∈ tableOf (gHd (G_X1_blockOf D l as h0 hF o)), covers z pc = false := hpN
def f_X1_blockOf (x0 : Nat) (x1 : Int32) (x2 : Int32) (h : AH) : Option ((Int32 ⊕ Nat) × AH) :=
  bd (gtR h 0 x0 0) fun v1 =>
  gd (isC h 1 v1) <|
  bdX (f_X2_block v1 x1 h) (fun zq23 h4 =>
    outX h4 zq23
  ) fun r3 h4 =>
  bd2 (f_X1_inRange x2 (0 : Int32) (3 : Int32) h4) fun r6 h7 =>
  bdX (f_X1_require r6 h7) (fun zq22 h10 =>
    outX h10 zq22
  ) fun r9 h10 =>
  if x2 = 0 then (
    bd (gtI h10 7 r3 0) fun v12 =>
    some (.inl v12, h10)
  ) else (
  if x2 = 1 then (
    bd (gtI h10 7 r3 1) fun v14 =>
    if v14 = 0 then (
      some (.inl (0 : Int32), h10)
    ) else (
      some (.inl (1 : Int32), h10)
    )
  ) else (
  if x2 = 2 then (
    bd (gtI h10 7 r3 2) fun v16 =>
    some (.inl v16, h10)
  ) else (
  gd (isC h10 0 x0) <|
  bd2 (f_X1_printed x0 x1 (1 : Int32) h10) fun r19 h20 =>
  some (.inl r19, h20)
  )))
theorem v_X1_blockOf (D : va_G) (l : Launch) (hl : l.stackTraces = false) (as : List Value) (h0 : AH) {r : (Int32 ⊕ Nat)} {hF : AH} (x0 : Nat) (x1 : Int32) (x2 : Int32) (h : AH) (e : f_X1_blockOf x0 x1 x2 h = some (r, hF)) : V (G_X1_blockOf D l as h0 hF ((oX oI) r)) h 0 [(0, .ref x0), (1, .int x1), (2, .int x2)] [] := by
  unfold f_X1_blockOf at e
  refine v_aload_n (pc' := 1) hc_X1_blockOf dX1_blockOf_0 rfl rfl 0 rfl ?_
  refine v_gfR (pc' := 4) hc_X1_blockOf ho_X1_blockOf KX1 0 (Nat.le_of_ble_eq_true rfl) q235 (Or.inl rfl) dX1_blockOf_1 rfl e (fun v1 _ e => ?_)
  refine v_iload_n (pc' := 5) hc_X1_blockOf dX1_blockOf_4 rfl rfl 1 rfl ?_
  obtain ⟨c2, e⟩ := gd_of e
  rcases bdX_of e with ⟨r3, h4, e5, e⟩ | ⟨zq23, h4, e5, e⟩
  · refine k_V (pc' := 8) (ci := 1) (n := 1) hc_X1_blockOf ho_X1_blockOf rfl c2 (w_X2_block D l hl v1 x1 h e5) (wA_l q1562) q1148 (wA_l q1149) q76 q1150 hy_49 ⟨Nat.le_of_ble_eq_true rfl, Nat.le_of_ble_eq_true rfl⟩ rfl rfl (Nat.le_of_ble_eq_true rfl) dX1_blockOf_5 rfl (kS ?_) kN
    refine v_astore_n (pc' := 9) (lv' := [(3, .ref r3), (0, .ref x0), (1, .int x1), (2, .int x2)]) hc_X1_blockOf dX1_blockOf_8 rfl rfl (Nat.le_of_ble_eq_true rfl) rfl ?_
    refine v_iload_n (pc' := 10) hc_X1_blockOf dX1_blockOf_9 rfl rfl 3 rfl ?_
    refine v_iconst (pc' := 11) (v := 0) hc_X1_blockOf dX1_blockOf_10 rfl rfl ?_
    refine v_iconst (pc' := 12) (v := 3) hc_X1_blockOf dX1_blockOf_11 rfl rfl ?_
    obtain ⟨r6, h7, e8, e⟩ := bd2_of e
    refine k_S (pc' := 15) (n := 3) hc_X1_blockOf ho_X1_blockOf (w_X1_inRange D l hl x2 (0 : Int32) (3 : Int32) h4 e8) (wA_l q266) q267 q75 q268 hy_39 ⟨Nat.le_of_ble_eq_true rfl, Nat.le_of_ble_eq_true rfl⟩ rfl rfl (Nat.le_of_ble_eq_true rfl) dX1_blockOf_12 rfl (kS ?_) kN
    rcases bdX_of e with ⟨r9, h10, e11, e⟩ | ⟨zq22, h10, e11, e⟩
    · refine k_S (pc' := 18) (n := 1) hc_X1_blockOf ho_X1_blockOf (w_X1_require D l hl r6 h7 e11) (wA_l q269) q270 q75 q271 hy_40 ⟨Nat.le_of_ble_eq_true rfl, Nat.le_of_ble_eq_true rfl⟩ rfl rfl (Nat.le_of_ble_eq_true rfl) dX1_blockOf_15 rfl (kU ?_) kN
      refine v_iload_n (pc' := 19) hc_X1_blockOf dX1_blockOf_18 rfl rfl 3 rfl ?_
      rcases ite_cs e with ⟨n13, e⟩ | ⟨n13, e⟩
      · refine v_tbl (off := 25) (pt := 44) hc_X1_blockOf dX1_blockOf_19 rfl rfl (by rw [n13]; rfl) rfl ?_
        refine v_aload_n (pc' := 45) hc_X1_blockOf dX1_blockOf_44 rfl rfl 0 rfl ?_
        refine v_gnI (pc' := 48) hc_X1_blockOf ho_X1_blockOf KX8 0 (Nat.le_of_ble_eq_true rfl) q1130 rfl dX1_blockOf_45 rfl e (fun v12 _ e => ?_)
        obtain ⟨rfl, rfl⟩ := ret_of e
        exact v_iret hc_X1_blockOf rfl dX1_blockOf_48 rfl rfl
      rcases ite_cs e with ⟨n15, e⟩ | ⟨n15, e⟩
      · refine v_tbl (off := 30) (pt := 49) hc_X1_blockOf dX1_blockOf_19 rfl rfl (by rw [n15]; rfl) rfl ?_
        refine v_aload_n (pc' := 50) hc_X1_blockOf dX1_blockOf_49 rfl rfl 0 rfl ?_
        refine v_gnI (pc' := 53) hc_X1_blockOf ho_X1_blockOf KX8 1 (Nat.le_of_ble_eq_true rfl) q1132 rfl dX1_blockOf_50 rfl e (fun v14 _ e => ?_)
        refine v_if_eq (pt := 60) (pf := 56) hc_X1_blockOf dX1_blockOf_53 rfl rfl e (fun _ e => ?_) (fun _ e => ?_)
        · refine v_iconst (pc' := 61) (v := 0) hc_X1_blockOf dX1_blockOf_60 rfl rfl ?_
          obtain ⟨rfl, rfl⟩ := ret_of e
          exact v_iret hc_X1_blockOf rfl dX1_blockOf_61 rfl rfl
        · refine v_iconst (pc' := 57) (v := 1) hc_X1_blockOf dX1_blockOf_56 rfl rfl ?_
          refine v_goto (pt := 61) hc_X1_blockOf dX1_blockOf_57 rfl ?_
          obtain ⟨rfl, rfl⟩ := ret_of e
          exact v_iret hc_X1_blockOf rfl dX1_blockOf_61 rfl rfl
      rcases ite_cs e with ⟨n17, e⟩ | ⟨n17, e⟩
      · refine v_tbl (off := 43) (pt := 62) hc_X1_blockOf dX1_blockOf_19 rfl rfl (by rw [n17]; rfl) rfl ?_
        refine v_aload_n (pc' := 63) hc_X1_blockOf dX1_blockOf_62 rfl rfl 0 rfl ?_
        refine v_gnI (pc' := 66) hc_X1_blockOf ho_X1_blockOf KX8 2 (Nat.le_of_ble_eq_true rfl) q1135 rfl dX1_blockOf_63 rfl e (fun v16 _ e => ?_)
        obtain ⟨rfl, rfl⟩ := ret_of e
        exact v_iret hc_X1_blockOf rfl dX1_blockOf_66 rfl rfl
      refine v_tbl (off := 48) (pt := 67) hc_X1_blockOf dX1_blockOf_19 rfl rfl (lk_c (lk_n n13 rfl) (lk_c (lk_n n15 rfl) (lk_c (lk_n n17 rfl) lk_z))) rfl ?_
      refine v_aload_n (pc' := 68) hc_X1_blockOf dX1_blockOf_67 rfl rfl 1 rfl ?_
      refine v_iload_n (pc' := 69) hc_X1_blockOf dX1_blockOf_68 rfl rfl 2 rfl ?_
      refine v_iconst (pc' := 70) (v := 1) hc_X1_blockOf dX1_blockOf_69 rfl rfl ?_
      obtain ⟨c18, e⟩ := gd_of e
      obtain ⟨r19, h20, e21, e⟩ := bd2_of e
      refine k_V (pc' := 73) (ci := 0) (n := 2) hc_X1_blockOf ho_X1_blockOf rfl c18 (w_X1_printed D l hl x0 x1 (1 : Int32) h10 e21) (wA_l q1563) q1565 (wA_l qs17) q75 q1566 hy_127 ⟨Nat.le_of_ble_eq_true rfl, Nat.le_of_ble_eq_true rfl⟩ rfl rfl (Nat.le_of_ble_eq_true rfl) dX1_blockOf_70 rfl (kS ?_) kN
      obtain ⟨rfl, rfl⟩ := ret_of e
      exact v_iret hc_X1_blockOf rfl dX1_blockOf_73 rfl rfl
    · refine k_S (pc' := 18) (n := 1) hc_X1_blockOf ho_X1_blockOf (w_X1_require D l hl r6 h7 e11) (wA_l q269) q270 q75 q271 hy_40 ⟨Nat.le_of_ble_eq_true rfl, Nat.le_of_ble_eq_true rfl⟩ rfl rfl (Nat.le_of_ble_eq_true rfl) dX1_blockOf_15 rfl kM (kX ?_)
      exact v_outA (hp_X1_blockOf _) rfl rfl e
  · refine k_V (pc' := 8) (ci := 1) (n := 1) hc_X1_blockOf ho_X1_blockOf rfl c2 (w_X2_block D l hl v1 x1 h e5) (wA_l q1562) q1148 (wA_l q1149) q76 q1150 hy_49 ⟨Nat.le_of_ble_eq_true rfl, Nat.le_of_ble_eq_true rfl⟩ rfl rfl (Nat.le_of_ble_eq_true rfl) dX1_blockOf_5 rfl kM (kX ?_)
    exact v_outA (hp_X1_blockOf _) rfl rfl e
theorem w_X1_blockOf (D : va_G) (l : Launch) (hl : l.stackTraces = false) (x0 : Nat) (x1 : Int32) (x2 : Int32) (h : AH) {r : (Int32 ⊕ Nat)} {hF : AH} (e : f_X1_blockOf x0 x1 x2 h = some (r, hF)) : MetV D l yX1_blockOf (Cond.code yX1_blockOf cX1_blockOf 4 (Option.some .int)) 8 137 [.ref x0, .int x1, .int x2] h hF ((oX oI) r) :=
  met_ofF (by decide +kernel) hl (Nat.le_of_ble_eq_true rfl) rfl (v_X1_blockOf D l hl [.ref x0, .int x1, .int x2] h x0 x1 x2 h e)
/-! BlockPapers$Named.<init>(Ljava/lang/String;I)V  -/
abbrev G_X4_init_3 (D : va_G) (l : Launch) (as : List Value) (h0 hF : AH) (o : Out) : CT := (D, l, (yX4_init_3.cls, yX4_init_3, cX4_init_3, 3, (Option.none : Option FieldType), 2, 72, []), as, h0, hF, o)
theorem hc_X4_init_3 {D : va_G} {l : Launch} {as : List Value} {h0 hF : AH} {o : Out} : gC (G_X4_init_3 D l as h0 hF o) = cX4_init_3 := rfl
theorem ho_X4_init_3 {D : va_G} {l : Launch} {as : List Value} {h0 hF : AH} {o : Out} : gO (G_X4_init_3 D l as h0 hF o) = "BlockPapers$Named" := rfl
theorem hp_X4_init_3 {D : va_G} {l : Launch} {as : List Value} {h0 hF : AH} {o : Out} (pc : Nat) : ∀ z ∈ tableOf (gHd (G_X4_init_3 D l as h0 hF o)), covers z pc = false := hpN
def f_X4_init_3 (x0 : Nat) (x1 : Nat) (x2 : Int32) (h : AH) : Option (Unit × AH) :=
  bd2 (f_X4_init_2 x0 x1 x2 (0 : Int32) (0 : Int32) h) fun r1 h2 =>
  some ((), h2)
theorem v_X4_init_3 (D : va_G) (l : Launch) (hl : l.stackTraces = false) (as : List Value) (h0 : AH) {r : Unit} {hF : AH} (x0 : Nat) (x1 : Nat) (x2 : Int32) (h : AH) (e : f_X4_init_3 x0 x1 x2 h = some (r, hF)) : V (G_X4_init_3 D l as h0 hF (oV r)) h 0 [(0, .ref x0), (1, .ref x1), (2, .int x2)] [] := by
  unfold f_X4_init_3 at e
  refine v_aload_n (pc' := 1) hc_X4_init_3 dX4_init_3_0 rfl rfl 0 rfl ?_
  refine v_aload_n (pc' := 2) hc_X4_init_3 dX4_init_3_1 rfl rfl 1 rfl ?_
  refine v_iload_n (pc' := 3) hc_X4_init_3 dX4_init_3_2 rfl rfl 2 rfl ?_
  refine v_iconst (pc' := 4) (v := 0) hc_X4_init_3 dX4_init_3_3 rfl rfl ?_
  refine v_iconst (pc' := 5) (v := 0) hc_X4_init_3 dX4_init_3_4 rfl rfl ?_
  obtain ⟨r1, h2, e3, e⟩ := bd2_of e
  refine k_I (pc' := 8) (n := 4) hc_X4_init_3 ho_X4_init_3 (w_X4_init_2 D l hl x0 x1 x2 (0 : Int32) (0 : Int32) h e3) (wA_l q935) q936 q86 q937 rfl hy_9 ⟨Nat.le_of_ble_eq_true rfl, Nat.le_of_ble_eq_true rfl⟩ rfl rfl (Nat.le_of_ble_eq_true rfl) dX4_init_3_5 rfl (kU ?_) kN
  obtain ⟨rfl, rfl⟩ := ret_of e
  exact v_ret hc_X4_init_3 rfl dX4_init_3_8 rfl rfl
theorem w_X4_init_3 (D : va_G) (l : Launch) (hl : l.stackTraces = false) (x0 : Nat) (x1 : Nat) (x2 : Int32) (h : AH) {r : Unit} {hF : AH} (e : f_X4_init_3 x0 x1 x2 h = some (r, hF)) : MetV D l yX4_init_3 (Cond.code yX4_init_3 cX4_init_3 3 (Option.none : Option FieldType)) 2 72 [.ref x0, .ref x1, .int x2] h hF (oV r) :=
  met_ofF (by decide +kernel) hl (Nat.le_of_ble_eq_true rfl) rfl (v_X4_init_3 D l hl [.ref x0, .ref x1, .int x2] h x0 x1 x2 h e)
/-! BlockPapers.carve(I)I  -/
abbrev G_X1_carve (D : va_G) (l : Launch) (as : List Value) (h0 hF : AH) (o : Out) : CT := (D, l, (yX1_carve.cls, yX1_carve, cX1_carve, 2, (Option.some .int), 14, 344, []), as, h0, hF, o)
theorem hc_X1_carve {D : va_G} {l : Launch} {as : List Value} {h0 hF : AH} {o : Out} : gC (G_X1_carve D l as h0 hF o) = cX1_carve := rfl
theorem ho_X1_carve {D : va_G} {l : Launch} {as : List Value} {h0 hF : AH} {o : Out} : gO (G_X1_carve D l as h0 hF o) = "BlockPapers" := rfl
theorem hp_X1_carve {D : va_G} {l : Launch} {as : List Value} {h0 hF : AH} {o : Out} (pc : Nat) : ∀ z ∈ tableOf (gHd (G_X1_carve D l as h0 hF o)), covers z pc = false := hpN
def f_X1_carve (x0 : Nat) (x1 : Int32) (h : AH) : Option ((Int32 ⊕ Nat) × AH) :=
  bd2 (nwX h 3 4 fsX4) fun a2 h1 =>
  bd (aE h1 102) fun v3 =>
  bd2 (f_X4_init_3 a2 v3 x1 h1) fun r4 h5 =>
  gd (isC h5 0 x0) <|
  bdX (f_X1_change x0 a2 h5) (fun zq11 h9 =>
    outX h9 zq11
  ) fun r8 h9 =>
  some (.inl r8, h9)
theorem v_X1_carve (D : va_G) (l : Launch) (hl : l.stackTraces = false) (as : List Value) (h0 : AH) {r : (Int32 ⊕ Nat)} {hF : AH} (x0 : Nat) (x1 : Int32) (h : AH) (e : f_X1_carve x0 x1 h = some (r, hF)) : V (G_X1_carve D l as h0 hF ((oX oI) r)) h 0 [(0, .ref x0), (1, .int x1)] [] := by
  unfold f_X1_carve at e
  refine v_aload_n (pc' := 1) hc_X1_carve dX1_carve_0 rfl rfl 0 rfl ?_
  refine v_newX (pc' := 4) hc_X1_carve ho_X1_carve KX4 q929 q930 q86 rfl dfX4 dX1_carve_1 rfl e (fun a2 h1 _ e => ?_)
  refine v_dup (pc' := 5) hc_X1_carve dX1_carve_4 rfl rfl ?_
  refine v_ldcS (pc' := 7) (tx := "carve") (j := 102) hc_X1_carve ho_X1_carve (by decide +kernel) dX1_carve_5 rfl e (fun v3 _ e => ?_)
  refine v_iload_n (pc' := 8) hc_X1_carve dX1_carve_7 rfl rfl 1 rfl ?_
  obtain ⟨r4, h5, e6, e⟩ := bd2_of e
  refine k_I (pc' := 11) (n := 2) hc_X1_carve ho_X1_carve (w_X4_init_3 D l hl a2 v3 x1 h1 e6) (wA_l q1577) q1578 q86 q1579 rfl hy_133 ⟨Nat.le_of_ble_eq_true rfl, Nat.le_of_ble_eq_true rfl⟩ rfl rfl (Nat.le_of_ble_eq_true rfl) dX1_carve_8 rfl (kU ?_) kN
  obtain ⟨c7, e⟩ := gd_of e
  rcases bdX_of e with ⟨r8, h9, e10, e⟩ | ⟨zq11, h9, e10, e⟩
  · refine k_VX (pc' := 14) (x := ⟨"BlockPapers", "change", "(LBlockPapers$Deed;)I"⟩) (ci := 0) (n := 1) hc_X1_carve ho_X1_carve rfl c7 (w_X1_change D l hl x0 a2 h5 e10) (wA_l q952) q954 qs8 q75 q955 hy_114 ⟨Nat.le_of_ble_eq_true rfl, Nat.le_of_ble_eq_true rfl⟩ rfl rfl (Nat.le_of_ble_eq_true rfl) dX1_carve_11 rfl (kS ?_) kN
    obtain ⟨rfl, rfl⟩ := ret_of e
    exact v_iret hc_X1_carve rfl dX1_carve_14 rfl rfl
  · refine k_VX (pc' := 14) (x := ⟨"BlockPapers", "change", "(LBlockPapers$Deed;)I"⟩) (ci := 0) (n := 1) hc_X1_carve ho_X1_carve rfl c7 (w_X1_change D l hl x0 a2 h5 e10) (wA_l q952) q954 qs8 q75 q955 hy_114 ⟨Nat.le_of_ble_eq_true rfl, Nat.le_of_ble_eq_true rfl⟩ rfl rfl (Nat.le_of_ble_eq_true rfl) dX1_carve_11 rfl kM (kX ?_)
    exact v_outA (hp_X1_carve _) rfl rfl e
theorem w_X1_carve (D : va_G) (l : Launch) (hl : l.stackTraces = false) (x0 : Nat) (x1 : Int32) (h : AH) {r : (Int32 ⊕ Nat)} {hF : AH} (e : f_X1_carve x0 x1 h = some (r, hF)) : MetV D l yX1_carve (Cond.code yX1_carve cX1_carve 2 (Option.some .int)) 14 344 [.ref x0, .int x1] h hF ((oX oI) r) :=
  met_ofF (by decide +kernel) hl (Nat.le_of_ble_eq_true rfl) rfl (v_X1_carve D l hl [.ref x0, .int x1] h x0 x1 h e)
/-! BlockPapers.ink(III)I  -/
abbrev G_X1_ink (D : va_G) (l : Launch) (as : List Value) (h0 hF : AH) (o : Out) : CT := (D, l, (yX1_ink.cls, yX1_ink, cX1_ink, 4, (Option.some .int), 14, 344, []), as, h0, hF, o)
theorem hc_X1_ink {D : va_G} {l : Launch} {as : List Value} {h0 hF : AH} {o : Out} : gC (G_X1_ink D l as h0 hF o) = cX1_ink := rfl
theorem ho_X1_ink {D : va_G} {l : Launch} {as : List Value} {h0 hF : AH} {o : Out} : gO (G_X1_ink D l as h0 hF o) = "BlockPapers" := rfl
theorem hp_X1_ink {D : va_G} {l : Launch} {as : List Value} {h0 hF : AH} {o : Out} (pc : Nat) : ∀ z ∈ tableOf (gHd (G_X1_ink D l as h0 hF o)), covers z pc = false := hpN
def f_X1_ink (x0 : Nat) (x1 : Int32) (x2 : Int32) (x3 : Int32) (h : AH) : Option ((Int32 ⊕ Nat) × AH) :=
  bd2 (nwX h 3 4 fsX4) fun a2 h1 =>
  bd (aE h1 103) fun v3 =>
  bd2 (f_X4_init_2 a2 v3 x1 x2 x3 h1) fun r4 h5 =>
  gd (isC h5 0 x0) <|
  bdX (f_X1_change x0 a2 h5) (fun zq11 h9 =>
    outX h9 zq11
  ) fun r8 h9 =>
  some (.inl r8, h9)
theorem v_X1_ink (D : va_G) (l : Launch) (hl : l.stackTraces = false) (as : List Value) (h0 : AH) {r : (Int32 ⊕ Nat)} {hF : AH} (x0 : Nat) (x1 : Int32) (x2 : Int32) (x3 : Int32) (h : AH) (e : f_X1_ink x0 x1 x2 x3 h = some (r, hF)) : V (G_X1_ink D l as h0 hF ((oX oI) r)) h 0 [(0, .ref x0), (1, .int x1), (2, .int x2), (3, .int x3)] [] := by
  unfold f_X1_ink at e
  refine v_aload_n (pc' := 1) hc_X1_ink dX1_ink_0 rfl rfl 0 rfl ?_
  refine v_newX (pc' := 4) hc_X1_ink ho_X1_ink KX4 q929 q930 q86 rfl dfX4 dX1_ink_1 rfl e (fun a2 h1 _ e => ?_)
  refine v_dup (pc' := 5) hc_X1_ink dX1_ink_4 rfl rfl ?_
  refine v_ldcS (pc' := 7) (tx := "ink") (j := 103) hc_X1_ink ho_X1_ink (by decide +kernel) dX1_ink_5 rfl e (fun v3 _ e => ?_)
  refine v_iload_n (pc' := 8) hc_X1_ink dX1_ink_7 rfl rfl 1 rfl ?_
  refine v_iload_n (pc' := 9) hc_X1_ink dX1_ink_8 rfl rfl 2 rfl ?_
  refine v_iload_n (pc' := 10) hc_X1_ink dX1_ink_9 rfl rfl 3 rfl ?_
  obtain ⟨r4, h5, e6, e⟩ := bd2_of e
  refine k_I (pc' := 13) (n := 4) hc_X1_ink ho_X1_ink (w_X4_init_2 D l hl a2 v3 x1 x2 x3 h1 e6) (wA_l q1588) q936 q86 q937 rfl hy_9 ⟨Nat.le_of_ble_eq_true rfl, Nat.le_of_ble_eq_true rfl⟩ rfl rfl (Nat.le_of_ble_eq_true rfl) dX1_ink_10 rfl (kU ?_) kN
  obtain ⟨c7, e⟩ := gd_of e
  rcases bdX_of e with ⟨r8, h9, e10, e⟩ | ⟨zq11, h9, e10, e⟩
  · refine k_VX (pc' := 16) (x := ⟨"BlockPapers", "change", "(LBlockPapers$Deed;)I"⟩) (ci := 0) (n := 1) hc_X1_ink ho_X1_ink rfl c7 (w_X1_change D l hl x0 a2 h5 e10) (wA_l q952) q954 qs8 q75 q955 hy_114 ⟨Nat.le_of_ble_eq_true rfl, Nat.le_of_ble_eq_true rfl⟩ rfl rfl (Nat.le_of_ble_eq_true rfl) dX1_ink_13 rfl (kS ?_) kN
    obtain ⟨rfl, rfl⟩ := ret_of e
    exact v_iret hc_X1_ink rfl dX1_ink_16 rfl rfl
  · refine k_VX (pc' := 16) (x := ⟨"BlockPapers", "change", "(LBlockPapers$Deed;)I"⟩) (ci := 0) (n := 1) hc_X1_ink ho_X1_ink rfl c7 (w_X1_change D l hl x0 a2 h5 e10) (wA_l q952) q954 qs8 q75 q955 hy_114 ⟨Nat.le_of_ble_eq_true rfl, Nat.le_of_ble_eq_true rfl⟩ rfl rfl (Nat.le_of_ble_eq_true rfl) dX1_ink_13 rfl kM (kX ?_)
    exact v_outA (hp_X1_ink _) rfl rfl e
theorem w_X1_ink (D : va_G) (l : Launch) (hl : l.stackTraces = false) (x0 : Nat) (x1 : Int32) (x2 : Int32) (x3 : Int32) (h : AH) {r : (Int32 ⊕ Nat)} {hF : AH} (e : f_X1_ink x0 x1 x2 x3 h = some (r, hF)) : MetV D l yX1_ink (Cond.code yX1_ink cX1_ink 4 (Option.some .int)) 14 344 [.ref x0, .int x1, .int x2, .int x3] h hF ((oX oI) r) :=
  met_ofF (by decide +kernel) hl (Nat.le_of_ble_eq_true rfl) rfl (v_X1_ink D l hl [.ref x0, .int x1, .int x2, .int x3] h x0 x1 x2 x3 h e)
/-! BlockPapers.inkOf(II)I  -/
abbrev G_X1_inkOf (D : va_G) (l : Launch) (as : List Value) (h0 hF : AH) (o : Out) : CT := (D, l, (yX1_inkOf.cls, yX1_inkOf, cX1_inkOf, 4, (Option.some .int), 8, 137, []), as, h0, hF, o)
theorem hc_X1_inkOf {D : va_G} {l : Launch} {as : List Value} {h0 hF : AH} {o : Out} : gC (G_X1_inkOf D l as h0 hF o) = cX1_inkOf := rfl
theorem ho_X1_inkOf {D : va_G} {l : Launch} {as : List Value} {h0 hF : AH} {o : Out} : gO (G_X1_inkOf D l as h0 hF o) = "BlockPapers" := rfl
theorem hp_X1_inkOf {D : va_G} {l : Launch} {as : List Value} {h0 hF : AH} {o : Out} (pc : Nat) : ∀ z ∈ tableOf (gHd (G_X1_inkOf D l as h0 hF o)), covers z pc = false := hpN
def f_X1_inkOf (x0 : Nat) (x1 : Int32) (x2 : Int32) (h : AH) : Option ((Int32 ⊕ Nat) × AH) :=
  bd (gtR h 0 x0 0) fun v1 =>
  gd (isC h 1 v1) <|
  bdX (f_X2_ink v1 x1 h) (fun zq20 h4 =>
    outX h4 zq20
  ) fun r3 h4 =>
  bd2 (f_X1_inRange x2 (0 : Int32) (3 : Int32) h4) fun r6 h7 =>
  bdX (f_X1_require r6 h7) (fun zq19 h10 =>
    outX h10 zq19
  ) fun r9 h10 =>
  if x2 = 0 then (
    bd (gtI h10 8 r3 0) fun v12 =>
    some (.inl v12, h10)
  ) else (
    if x2 = (1 : Int32) then (
      bd (gtI h10 8 r3 1) fun v13 =>
      some (.inl v13, h10)
    ) else (
      if x2 = (2 : Int32) then (
        bd (gtI h10 8 r3 2) fun v14 =>
        some (.inl v14, h10)
      ) else (
        gd (isC h10 0 x0) <|
        bd2 (f_X1_printed x0 x1 (0 : Int32) h10) fun r16 h17 =>
        some (.inl r16, h17)
      )
    )
  )
theorem v_X1_inkOf (D : va_G) (l : Launch) (hl : l.stackTraces = false) (as : List Value) (h0 : AH) {r : (Int32 ⊕ Nat)} {hF : AH} (x0 : Nat) (x1 : Int32) (x2 : Int32) (h : AH) (e : f_X1_inkOf x0 x1 x2 h = some (r, hF)) : V (G_X1_inkOf D l as h0 hF ((oX oI) r)) h 0 [(0, .ref x0), (1, .int x1), (2, .int x2)] [] := by
  unfold f_X1_inkOf at e
  refine v_aload_n (pc' := 1) hc_X1_inkOf dX1_inkOf_0 rfl rfl 0 rfl ?_
  refine v_gfR (pc' := 4) hc_X1_inkOf ho_X1_inkOf KX1 0 (Nat.le_of_ble_eq_true rfl) q235 (Or.inl rfl) dX1_inkOf_1 rfl e (fun v1 _ e => ?_)
  refine v_iload_n (pc' := 5) hc_X1_inkOf dX1_inkOf_4 rfl rfl 1 rfl ?_
  obtain ⟨c2, e⟩ := gd_of e
  rcases bdX_of e with ⟨r3, h4, e5, e⟩ | ⟨zq20, h4, e5, e⟩
  · refine k_V (pc' := 8) (ci := 1) (n := 1) hc_X1_inkOf ho_X1_inkOf rfl c2 (w_X2_ink D l hl v1 x1 h e5) (wA_l q1596) q1214 (wA_l q1215) q76 q1216 hy_55 ⟨Nat.le_of_ble_eq_true rfl, Nat.le_of_ble_eq_true rfl⟩ rfl rfl (Nat.le_of_ble_eq_true rfl) dX1_inkOf_5 rfl (kS ?_) kN
    refine v_astore_n (pc' := 9) (lv' := [(3, .ref r3), (0, .ref x0), (1, .int x1), (2, .int x2)]) hc_X1_inkOf dX1_inkOf_8 rfl rfl (Nat.le_of_ble_eq_true rfl) rfl ?_
    refine v_iload_n (pc' := 10) hc_X1_inkOf dX1_inkOf_9 rfl rfl 3 rfl ?_
    refine v_iconst (pc' := 11) (v := 0) hc_X1_inkOf dX1_inkOf_10 rfl rfl ?_
    refine v_iconst (pc' := 12) (v := 3) hc_X1_inkOf dX1_inkOf_11 rfl rfl ?_
    obtain ⟨r6, h7, e8, e⟩ := bd2_of e
    refine k_S (pc' := 15) (n := 3) hc_X1_inkOf ho_X1_inkOf (w_X1_inRange D l hl x2 (0 : Int32) (3 : Int32) h4 e8) (wA_l q266) q267 q75 q268 hy_39 ⟨Nat.le_of_ble_eq_true rfl, Nat.le_of_ble_eq_true rfl⟩ rfl rfl (Nat.le_of_ble_eq_true rfl) dX1_inkOf_12 rfl (kS ?_) kN
    rcases bdX_of e with ⟨r9, h10, e11, e⟩ | ⟨zq19, h10, e11, e⟩
    · refine k_S (pc' := 18) (n := 1) hc_X1_inkOf ho_X1_inkOf (w_X1_require D l hl r6 h7 e11) (wA_l q269) q270 q75 q271 hy_40 ⟨Nat.le_of_ble_eq_true rfl, Nat.le_of_ble_eq_true rfl⟩ rfl rfl (Nat.le_of_ble_eq_true rfl) dX1_inkOf_15 rfl (kU ?_) kN
      refine v_iload_n (pc' := 19) hc_X1_inkOf dX1_inkOf_18 rfl rfl 3 rfl ?_
      refine v_if_ne (pt := 29) (pf := 22) hc_X1_inkOf dX1_inkOf_19 rfl rfl e (fun _ e => ?_) (fun _ e => ?_)
      · refine v_aload_n (pc' := 23) hc_X1_inkOf dX1_inkOf_22 rfl rfl 0 rfl ?_
        refine v_gnI (pc' := 26) hc_X1_inkOf ho_X1_inkOf KX9 0 (Nat.le_of_ble_eq_true rfl) q1195 rfl dX1_inkOf_23 rfl e (fun v12 _ e => ?_)
        refine v_goto (pt := 59) hc_X1_inkOf dX1_inkOf_26 rfl ?_
        obtain ⟨rfl, rfl⟩ := ret_of e
        exact v_iret hc_X1_inkOf rfl dX1_inkOf_59 rfl rfl
      · refine v_iload_n (pc' := 30) hc_X1_inkOf dX1_inkOf_29 rfl rfl 3 rfl ?_
        refine v_iconst (pc' := 31) (v := 1) hc_X1_inkOf dX1_inkOf_30 rfl rfl ?_
        refine v_icmp_ne (pt := 41) (pf := 34) hc_X1_inkOf dX1_inkOf_31 rfl rfl e (fun _ e => ?_) (fun _ e => ?_)
        · refine v_aload_n (pc' := 35) hc_X1_inkOf dX1_inkOf_34 rfl rfl 0 rfl ?_
          refine v_gnI (pc' := 38) hc_X1_inkOf ho_X1_inkOf KX9 1 (Nat.le_of_ble_eq_true rfl) q1198 rfl dX1_inkOf_35 rfl e (fun v13 _ e => ?_)
          refine v_goto (pt := 59) hc_X1_inkOf dX1_inkOf_38 rfl ?_
          obtain ⟨rfl, rfl⟩ := ret_of e
          exact v_iret hc_X1_inkOf rfl dX1_inkOf_59 rfl rfl
        · refine v_iload_n (pc' := 42) hc_X1_inkOf dX1_inkOf_41 rfl rfl 3 rfl ?_
          refine v_iconst (pc' := 43) (v := 2) hc_X1_inkOf dX1_inkOf_42 rfl rfl ?_
          refine v_icmp_ne (pt := 53) (pf := 46) hc_X1_inkOf dX1_inkOf_43 rfl rfl e (fun _ e => ?_) (fun _ e => ?_)
          · refine v_aload_n (pc' := 47) hc_X1_inkOf dX1_inkOf_46 rfl rfl 0 rfl ?_
            refine v_gnI (pc' := 50) hc_X1_inkOf ho_X1_inkOf KX9 2 (Nat.le_of_ble_eq_true rfl) q1201 rfl dX1_inkOf_47 rfl e (fun v14 _ e => ?_)
            refine v_goto (pt := 59) hc_X1_inkOf dX1_inkOf_50 rfl ?_
            obtain ⟨rfl, rfl⟩ := ret_of e
            exact v_iret hc_X1_inkOf rfl dX1_inkOf_59 rfl rfl
          · refine v_aload_n (pc' := 54) hc_X1_inkOf dX1_inkOf_53 rfl rfl 1 rfl ?_
            refine v_iload_n (pc' := 55) hc_X1_inkOf dX1_inkOf_54 rfl rfl 2 rfl ?_
            refine v_iconst (pc' := 56) (v := 0) hc_X1_inkOf dX1_inkOf_55 rfl rfl ?_
            obtain ⟨c15, e⟩ := gd_of e
            obtain ⟨r16, h17, e18, e⟩ := bd2_of e
            refine k_V (pc' := 59) (ci := 0) (n := 2) hc_X1_inkOf ho_X1_inkOf rfl c15 (w_X1_printed D l hl x0 x1 (0 : Int32) h10 e18) (wA_l q1563) q1565 (wA_l qs17) q75 q1566 hy_127 ⟨Nat.le_of_ble_eq_true rfl, Nat.le_of_ble_eq_true rfl⟩ rfl rfl (Nat.le_of_ble_eq_true rfl) dX1_inkOf_56 rfl (kS ?_) kN
            obtain ⟨rfl, rfl⟩ := ret_of e
            exact v_iret hc_X1_inkOf rfl dX1_inkOf_59 rfl rfl
    · refine k_S (pc' := 18) (n := 1) hc_X1_inkOf ho_X1_inkOf (w_X1_require D l hl r6 h7 e11) (wA_l q269) q270 q75 q271 hy_40 ⟨Nat.le_of_ble_eq_true rfl, Nat.le_of_ble_eq_true rfl⟩ rfl rfl (Nat.le_of_ble_eq_true rfl) dX1_inkOf_15 rfl kM (kX ?_)
      exact v_outA (hp_X1_inkOf _) rfl rfl e
  · refine k_V (pc' := 8) (ci := 1) (n := 1) hc_X1_inkOf ho_X1_inkOf rfl c2 (w_X2_ink D l hl v1 x1 h e5) (wA_l q1596) q1214 (wA_l q1215) q76 q1216 hy_55 ⟨Nat.le_of_ble_eq_true rfl, Nat.le_of_ble_eq_true rfl⟩ rfl rfl (Nat.le_of_ble_eq_true rfl) dX1_inkOf_5 rfl kM (kX ?_)
    exact v_outA (hp_X1_inkOf _) rfl rfl e
theorem w_X1_inkOf (D : va_G) (l : Launch) (hl : l.stackTraces = false) (x0 : Nat) (x1 : Int32) (x2 : Int32) (h : AH) {r : (Int32 ⊕ Nat)} {hF : AH} (e : f_X1_inkOf x0 x1 x2 h = some (r, hF)) : MetV D l yX1_inkOf (Cond.code yX1_inkOf cX1_inkOf 4 (Option.some .int)) 8 137 [.ref x0, .int x1, .int x2] h hF ((oX oI) r) :=
  met_ofF (by decide +kernel) hl (Nat.le_of_ble_eq_true rfl) rfl (v_X1_inkOf D l hl [.ref x0, .int x1, .int x2] h x0 x1 x2 h e)
/-! BlockPapers.mix(III)I  -/
abbrev G_X1_mix (D : va_G) (l : Launch) (as : List Value) (h0 hF : AH) (o : Out) : CT := (D, l, (yX1_mix.cls, yX1_mix, cX1_mix, 4, (Option.some .int), 14, 344, []), as, h0, hF, o)
theorem hc_X1_mix {D : va_G} {l : Launch} {as : List Value} {h0 hF : AH} {o : Out} : gC (G_X1_mix D l as h0 hF o) = cX1_mix := rfl
theorem ho_X1_mix {D : va_G} {l : Launch} {as : List Value} {h0 hF : AH} {o : Out} : gO (G_X1_mix D l as h0 hF o) = "BlockPapers" := rfl
theorem hp_X1_mix {D : va_G} {l : Launch} {as : List Value} {h0 hF : AH} {o : Out} (pc : Nat) : ∀ z ∈ tableOf (gHd (G_X1_mix D l as h0 hF o)), covers z pc = false := hpN
def f_X1_mix (x0 : Nat) (x1 : Int32) (x2 : Int32) (x3 : Int32) (h : AH) : Option ((Int32 ⊕ Nat) × AH) :=
  bd2 (nwX h 3 4 fsX4) fun a2 h1 =>
  bd (aE h1 104) fun v3 =>
  bd2 (f_X4_init_2 a2 v3 x1 x2 x3 h1) fun r4 h5 =>
  gd (isC h5 0 x0) <|
  bdX (f_X1_change x0 a2 h5) (fun zq11 h9 =>
    outX h9 zq11
  ) fun r8 h9 =>
  some (.inl r8, h9)
theorem v_X1_mix (D : va_G) (l : Launch) (hl : l.stackTraces = false) (as : List Value) (h0 : AH) {r : (Int32 ⊕ Nat)} {hF : AH} (x0 : Nat) (x1 : Int32) (x2 : Int32) (x3 : Int32) (h : AH) (e : f_X1_mix x0 x1 x2 x3 h = some (r, hF)) : V (G_X1_mix D l as h0 hF ((oX oI) r)) h 0 [(0, .ref x0), (1, .int x1), (2, .int x2), (3, .int x3)] [] := by
  unfold f_X1_mix at e
  refine v_aload_n (pc' := 1) hc_X1_mix dX1_mix_0 rfl rfl 0 rfl ?_
  refine v_newX (pc' := 4) hc_X1_mix ho_X1_mix KX4 q929 q930 q86 rfl dfX4 dX1_mix_1 rfl e (fun a2 h1 _ e => ?_)
  refine v_dup (pc' := 5) hc_X1_mix dX1_mix_4 rfl rfl ?_
  refine v_ldcS (pc' := 7) (tx := "mix") (j := 104) hc_X1_mix ho_X1_mix (by decide +kernel) dX1_mix_5 rfl e (fun v3 _ e => ?_)
  refine v_iload_n (pc' := 8) hc_X1_mix dX1_mix_7 rfl rfl 1 rfl ?_
  refine v_iload_n (pc' := 9) hc_X1_mix dX1_mix_8 rfl rfl 2 rfl ?_
  refine v_iload_n (pc' := 10) hc_X1_mix dX1_mix_9 rfl rfl 3 rfl ?_
  obtain ⟨r4, h5, e6, e⟩ := bd2_of e
  refine k_I (pc' := 13) (n := 4) hc_X1_mix ho_X1_mix (w_X4_init_2 D l hl a2 v3 x1 x2 x3 h1 e6) (wA_l q1588) q936 q86 q937 rfl hy_9 ⟨Nat.le_of_ble_eq_true rfl, Nat.le_of_ble_eq_true rfl⟩ rfl rfl (Nat.le_of_ble_eq_true rfl) dX1_mix_10 rfl (kU ?_) kN
  obtain ⟨c7, e⟩ := gd_of e
  rcases bdX_of e with ⟨r8, h9, e10, e⟩ | ⟨zq11, h9, e10, e⟩
  · refine k_VX (pc' := 16) (x := ⟨"BlockPapers", "change", "(LBlockPapers$Deed;)I"⟩) (ci := 0) (n := 1) hc_X1_mix ho_X1_mix rfl c7 (w_X1_change D l hl x0 a2 h5 e10) (wA_l q952) q954 qs8 q75 q955 hy_114 ⟨Nat.le_of_ble_eq_true rfl, Nat.le_of_ble_eq_true rfl⟩ rfl rfl (Nat.le_of_ble_eq_true rfl) dX1_mix_13 rfl (kS ?_) kN
    obtain ⟨rfl, rfl⟩ := ret_of e
    exact v_iret hc_X1_mix rfl dX1_mix_16 rfl rfl
  · refine k_VX (pc' := 16) (x := ⟨"BlockPapers", "change", "(LBlockPapers$Deed;)I"⟩) (ci := 0) (n := 1) hc_X1_mix ho_X1_mix rfl c7 (w_X1_change D l hl x0 a2 h5 e10) (wA_l q952) q954 qs8 q75 q955 hy_114 ⟨Nat.le_of_ble_eq_true rfl, Nat.le_of_ble_eq_true rfl⟩ rfl rfl (Nat.le_of_ble_eq_true rfl) dX1_mix_13 rfl kM (kX ?_)
    exact v_outA (hp_X1_mix _) rfl rfl e
theorem w_X1_mix (D : va_G) (l : Launch) (hl : l.stackTraces = false) (x0 : Nat) (x1 : Int32) (x2 : Int32) (x3 : Int32) (h : AH) {r : (Int32 ⊕ Nat)} {hF : AH} (e : f_X1_mix x0 x1 x2 x3 h = some (r, hF)) : MetV D l yX1_mix (Cond.code yX1_mix cX1_mix 4 (Option.some .int)) 14 344 [.ref x0, .int x1, .int x2, .int x3] h hF ((oX oI) r) :=
  met_ofF (by decide +kernel) hl (Nat.le_of_ble_eq_true rfl) rfl (v_X1_mix D l hl [.ref x0, .int x1, .int x2, .int x3] h x0 x1 x2 x3 h e)
/-! BlockPapers.print(III)I  -/
abbrev G_X1_print (D : va_G) (l : Launch) (as : List Value) (h0 hF : AH) (o : Out) : CT := (D, l, (yX1_print.cls, yX1_print, cX1_print, 4, (Option.some .int), 14, 344, []), as, h0, hF, o)
theorem hc_X1_print {D : va_G} {l : Launch} {as : List Value} {h0 hF : AH} {o : Out} : gC (G_X1_print D l as h0 hF o) = cX1_print := rfl
theorem ho_X1_print {D : va_G} {l : Launch} {as : List Value} {h0 hF : AH} {o : Out} : gO (G_X1_print D l as h0 hF o) = "BlockPapers" := rfl
theorem hp_X1_print {D : va_G} {l : Launch} {as : List Value} {h0 hF : AH} {o : Out} (pc : Nat) : ∀ z ∈ tableOf (gHd (G_X1_print D l as h0 hF o)), covers z pc = false := hpN
def f_X1_print (x0 : Nat) (x1 : Int32) (x2 : Int32) (x3 : Int32) (h : AH) : Option ((Int32 ⊕ Nat) × AH) :=
  bd2 (nwX h 3 4 fsX4) fun a2 h1 =>
  bd (aE h1 105) fun v3 =>
  bd2 (f_X4_init_2 a2 v3 x1 x2 x3 h1) fun r4 h5 =>
  gd (isC h5 0 x0) <|
  bdX (f_X1_change x0 a2 h5) (fun zq11 h9 =>
    outX h9 zq11
  ) fun r8 h9 =>
  some (.inl r8, h9)
theorem v_X1_print (D : va_G) (l : Launch) (hl : l.stackTraces = false) (as : List Value) (h0 : AH) {r : (Int32 ⊕ Nat)} {hF : AH} (x0 : Nat) (x1 : Int32) (x2 : Int32) (x3 : Int32) (h : AH) (e : f_X1_print x0 x1 x2 x3 h = some (r, hF)) : V (G_X1_print D l as h0 hF ((oX oI) r)) h 0 [(0, .ref x0), (1, .int x1), (2, .int x2), (3, .int x3)] [] := by
  unfold f_X1_print at e
  refine v_aload_n (pc' := 1) hc_X1_print dX1_print_0 rfl rfl 0 rfl ?_
  refine v_newX (pc' := 4) hc_X1_print ho_X1_print KX4 q929 q930 q86 rfl dfX4 dX1_print_1 rfl e (fun a2 h1 _ e => ?_)
  refine v_dup (pc' := 5) hc_X1_print dX1_print_4 rfl rfl ?_
  refine v_ldcS (pc' := 7) (tx := "print") (j := 105) hc_X1_print ho_X1_print (by decide +kernel) dX1_print_5 rfl e (fun v3 _ e => ?_)
  refine v_iload_n (pc' := 8) hc_X1_print dX1_print_7 rfl rfl 1 rfl ?_
  refine v_iload_n (pc' := 9) hc_X1_print dX1_print_8 rfl rfl 2 rfl ?_
  refine v_iload_n (pc' := 10) hc_X1_print dX1_print_9 rfl rfl 3 rfl ?_
  obtain ⟨r4, h5, e6, e⟩ := bd2_of e
  refine k_I (pc' := 13) (n := 4) hc_X1_print ho_X1_print (w_X4_init_2 D l hl a2 v3 x1 x2 x3 h1 e6) (wA_l q1588) q936 q86 q937 rfl hy_9 ⟨Nat.le_of_ble_eq_true rfl, Nat.le_of_ble_eq_true rfl⟩ rfl rfl (Nat.le_of_ble_eq_true rfl) dX1_print_10 rfl (kU ?_) kN
  obtain ⟨c7, e⟩ := gd_of e
  rcases bdX_of e with ⟨r8, h9, e10, e⟩ | ⟨zq11, h9, e10, e⟩
  · refine k_VX (pc' := 16) (x := ⟨"BlockPapers", "change", "(LBlockPapers$Deed;)I"⟩) (ci := 0) (n := 1) hc_X1_print ho_X1_print rfl c7 (w_X1_change D l hl x0 a2 h5 e10) (wA_l q952) q954 qs8 q75 q955 hy_114 ⟨Nat.le_of_ble_eq_true rfl, Nat.le_of_ble_eq_true rfl⟩ rfl rfl (Nat.le_of_ble_eq_true rfl) dX1_print_13 rfl (kS ?_) kN
    obtain ⟨rfl, rfl⟩ := ret_of e
    exact v_iret hc_X1_print rfl dX1_print_16 rfl rfl
  · refine k_VX (pc' := 16) (x := ⟨"BlockPapers", "change", "(LBlockPapers$Deed;)I"⟩) (ci := 0) (n := 1) hc_X1_print ho_X1_print rfl c7 (w_X1_change D l hl x0 a2 h5 e10) (wA_l q952) q954 qs8 q75 q955 hy_114 ⟨Nat.le_of_ble_eq_true rfl, Nat.le_of_ble_eq_true rfl⟩ rfl rfl (Nat.le_of_ble_eq_true rfl) dX1_print_13 rfl kM (kX ?_)
    exact v_outA (hp_X1_print _) rfl rfl e
theorem w_X1_print (D : va_G) (l : Launch) (hl : l.stackTraces = false) (x0 : Nat) (x1 : Int32) (x2 : Int32) (x3 : Int32) (h : AH) {r : (Int32 ⊕ Nat)} {hF : AH} (e : f_X1_print x0 x1 x2 x3 h = some (r, hF)) : MetV D l yX1_print (Cond.code yX1_print cX1_print 4 (Option.some .int)) 14 344 [.ref x0, .int x1, .int x2, .int x3] h hF ((oX oI) r) :=
  met_ofF (by decide +kernel) hl (Nat.le_of_ble_eq_true rfl) rfl (v_X1_print D l hl [.ref x0, .int x1, .int x2, .int x3] h x0 x1 x2 x3 h e)
/-! BlockPapers$Workshop$Hanging.<init>(LBlockPapers$Workshop;)V  -/
abbrev G_X14_init (D : va_G) (l : Launch) (as : List Value) (h0 hF : AH) (o : Out) : CT := (D, l, (yX14_init.cls, yX14_init, cX14_init, 2, (Option.none : Option FieldType), 1, 48, []), as, h0, hF, o)
theorem hc_X14_init {D : va_G} {l : Launch} {as : List Value} {h0 hF : AH} {o : Out} : gC (G_X14_init D l as h0 hF o) = cX14_init := rfl
theorem ho_X14_init {D : va_G} {l : Launch} {as : List Value} {h0 hF : AH} {o : Out} : gO (G_X14_init D l as h0 hF o) = "BlockPapers$Workshop$Hanging" := rfl
theorem hp_X14_init {D : va_G} {l : Launch} {as : List Value} {h0 hF : AH} {o : Out} (pc : Nat) : ∀ z ∈ tableOf (gHd (G_X14_init D l as h0 hF o)), covers z pc = false := hpN
def f_X14_init (x0 : Nat) (x1 : Nat) (h : AH) : Option (Unit × AH) :=
  bd (stF h 12 x0 0 (.ref x1)) fun h1 =>
  some ((), h1)
theorem v_X14_init (D : va_G) (l : Launch) (hl : l.stackTraces = false) (as : List Value) (h0 : AH) {r : Unit} {hF : AH} (x0 : Nat) (x1 : Nat) (h : AH) (e : f_X14_init x0 x1 h = some (r, hF)) : V (G_X14_init D l as h0 hF (oV r)) h 0 [(0, .ref x0), (1, .ref x1)] [] := by
  unfold f_X14_init at e
  refine v_aload_n (pc' := 1) hc_X14_init dX14_init_0 rfl rfl 0 rfl ?_
  refine v_aload_n (pc' := 2) hc_X14_init dX14_init_1 rfl rfl 1 rfl ?_
  refine v_pfF (pc' := 5) hc_X14_init ho_X14_init rfl KX14 0 (Nat.le_of_ble_eq_true rfl) q478 rfl rfl rfl dX14_init_2 rfl rfl rfl e (fun h1 _ e => ?_)
  refine v_aload_n (pc' := 6) hc_X14_init dX14_init_5 rfl rfl 0 rfl ?_
  refine v_oinit (pc' := 9) hc_X14_init ho_X14_init q477 q127 q128 ⟨Nat.le_of_ble_eq_true rfl, Nat.le_of_ble_eq_true rfl⟩ dX14_init_6 rfl ?_
  obtain ⟨rfl, rfl⟩ := ret_of e
  exact v_ret hc_X14_init rfl dX14_init_9 rfl rfl
theorem w_X14_init (D : va_G) (l : Launch) (hl : l.stackTraces = false) (x0 : Nat) (x1 : Nat) (h : AH) {r : Unit} {hF : AH} (e : f_X14_init x0 x1 h = some (r, hF)) : MetV D l yX14_init (Cond.code yX14_init cX14_init 2 (Option.none : Option FieldType)) 1 48 [.ref x0, .ref x1] h hF (oV r) :=
  met_ofF (by decide +kernel) hl (Nat.le_of_ble_eq_true rfl) rfl (v_X14_init D l hl [.ref x0, .ref x1] h x0 x1 h e)
/-! BlockPapers$Workshop$Hanging$Walk.<init>(LBlockPapers$Workshop$Hanging;)V  -/
abbrev G_X15_init (D : va_G) (l : Launch) (as : List Value) (h0 hF : AH) (o : Out) : CT := (D, l, (yX15_init.cls, yX15_init, cX15_init, 2, (Option.none : Option FieldType), 1, 48, []), as, h0, hF, o)
theorem hc_X15_init {D : va_G} {l : Launch} {as : List Value} {h0 hF : AH} {o : Out} : gC (G_X15_init D l as h0 hF o) = cX15_init := rfl
theorem ho_X15_init {D : va_G} {l : Launch} {as : List Value} {h0 hF : AH} {o : Out} : gO (G_X15_init D l as h0 hF o) = "BlockPapers$Workshop$Hanging$Walk" := rfl
theorem hp_X15_init {D : va_G} {l : Launch} {as : List Value} {h0 hF : AH} {o : Out} (pc : Nat) : ∀ z ∈ tableOf (gHd (G_X15_init D l as h0 hF o)), covers z pc = false := hpN
def f_X15_init (x0 : Nat) (x1 : Nat) (h : AH) : Option (Unit × AH) :=
  bd (stF h 13 x0 2 (.ref x1)) fun h1 =>
  some ((), h1)
theorem v_X15_init (D : va_G) (l : Launch) (hl : l.stackTraces = false) (as : List Value) (h0 : AH) {r : Unit} {hF : AH} (x0 : Nat) (x1 : Nat) (h : AH) (e : f_X15_init x0 x1 h = some (r, hF)) : V (G_X15_init D l as h0 hF (oV r)) h 0 [(0, .ref x0), (1, .ref x1)] [] := by
  unfold f_X15_init at e
  refine v_aload_n (pc' := 1) hc_X15_init dX15_init_0 rfl rfl 0 rfl ?_
  refine v_aload_n (pc' := 2) hc_X15_init dX15_init_1 rfl rfl 1 rfl ?_
  refine v_pfF (pc' := 5) hc_X15_init ho_X15_init rfl KX15 2 (Nat.le_of_ble_eq_true rfl) q495 rfl rfl rfl dX15_init_2 rfl rfl rfl e (fun h1 _ e => ?_)
  refine v_aload_n (pc' := 6) hc_X15_init dX15_init_5 rfl rfl 0 rfl ?_
  refine v_oinit (pc' := 9) hc_X15_init ho_X15_init q492 q127 q128 ⟨Nat.le_of_ble_eq_true rfl, Nat.le_of_ble_eq_true rfl⟩ dX15_init_6 rfl ?_
  obtain ⟨rfl, rfl⟩ := ret_of e
  exact v_ret hc_X15_init rfl dX15_init_9 rfl rfl
theorem w_X15_init (D : va_G) (l : Launch) (hl : l.stackTraces = false) (x0 : Nat) (x1 : Nat) (h : AH) {r : Unit} {hF : AH} (e : f_X15_init x0 x1 h = some (r, hF)) : MetV D l yX15_init (Cond.code yX15_init cX15_init 2 (Option.none : Option FieldType)) 1 48 [.ref x0, .ref x1] h hF (oV r) :=
  met_ofF (by decide +kernel) hl (Nat.le_of_ble_eq_true rfl) rfl (v_X15_init D l hl [.ref x0, .ref x1] h x0 x1 h e)
/-! BlockPapers$Workshop$Hanging.iterator()Ljava/util/Iterator;  -/
abbrev G_X14_iterator (D : va_G) (l : Launch) (as : List Value) (h0 hF : AH) (o : Out) : CT := (D, l, (yX14_iterator.cls, yX14_iterator, cX14_iterator, 1, (Option.some (.object "java/util/Iterator")), 2, 69, []), as, h0, hF, o)
theorem hc_X14_iterator {D : va_G} {l : Launch} {as : List Value} {h0 hF : AH} {o : Out} : gC (G_X14_iterator D l as h0 hF o) = cX14_iterator := rfl
theorem ho_X14_iterator {D : va_G} {l : Launch} {as : List Value} {h0 hF : AH} {o : Out} : gO (G_X14_iterator D l as h0 hF o) = "BlockPapers$Workshop$Hanging" := rfl
theorem hp_X14_iterator {D : va_G} {l : Launch} {as : List Value} {h0 hF : AH} {o : Out} (pc : Nat) : ∀ z ∈ tableOf (gHd (G_X14_iterator D l as h0 hF o)), covers z pc = false := hpN
def f_X14_iterator (x0 : Nat) (h : AH) : Option (Nat × AH) :=
  bd2 (nwX h 13 3 fsX15) fun a2 h1 =>
  bd2 (f_X15_init a2 x0 h1) fun r3 h4 =>
  some (a2, h4)
theorem v_X14_iterator (D : va_G) (l : Launch) (hl : l.stackTraces = false) (as : List Value) (h0 : AH) {r : Nat} {hF : AH} (x0 : Nat) (h : AH) (e : f_X14_iterator x0 h = some (r, hF)) : V (G_X14_iterator D l as h0 hF (oR r)) h 0 [(0, .ref x0)] [] := by
  unfold f_X14_iterator at e
  refine v_newX (pc' := 3) hc_X14_iterator ho_X14_iterator KX15 q487 q488 q116 rfl dfX15 dX14_iterator_0 rfl e (fun a2 h1 _ e => ?_)
  refine v_dup (pc' := 4) hc_X14_iterator dX14_iterator_3 rfl rfl ?_
  refine v_aload_n (pc' := 5) hc_X14_iterator dX14_iterator_4 rfl rfl 0 rfl ?_
  obtain ⟨r3, h4, e5, e⟩ := bd2_of e
  refine k_IN (pc' := 8) (x := ⟨"BlockPapers$Workshop$Hanging$Walk", "<init>", "(LBlockPapers$Workshop$Hanging;)V"⟩) (n := 1) hc_X14_iterator ho_X14_iterator (w_X15_init D l hl a2 x0 h1 e5) q489 q490 q116 rfl q491 hy_156 ⟨Nat.le_of_ble_eq_true rfl, Nat.le_of_ble_eq_true rfl⟩ rfl rfl (Nat.le_of_ble_eq_true rfl) dX14_iterator_5 rfl (kU ?_) kN
  obtain ⟨rfl, rfl⟩ := ret_of e
  exact v_aret hc_X14_iterator rfl (Or.inl ⟨_, rfl⟩) (Or.inr ⟨_, rfl⟩) dX14_iterator_8 rfl rfl
theorem w_X14_iterator (D : va_G) (l : Launch) (hl : l.stackTraces = false) (x0 : Nat) (h : AH) {r : Nat} {hF : AH} (e : f_X14_iterator x0 h = some (r, hF)) : MetV D l yX14_iterator (Cond.code yX14_iterator cX14_iterator 1 (Option.some (.object "java/util/Iterator"))) 2 69 [.ref x0] h hF (oR r) :=
  met_ofF (by decide +kernel) hl (Nat.le_of_ble_eq_true rfl) rfl (v_X14_iterator D l hl [.ref x0] h x0 h e)
/-! BlockPapers$Workshop$Hanging$Walk.hasNext()Z  -/
abbrev G_X15_hasNext (D : va_G) (l : Launch) (as : List Value) (h0 hF : AH) (o : Out) : CT := (D, l, (yX15_hasNext.cls, yX15_hasNext, cX15_hasNext, 1, (Option.some .boolean), 4, 112, []), as, h0, hF, o)
theorem hc_X15_hasNext {D : va_G} {l : Launch} {as : List Value} {h0 hF : AH} {o : Out} : gC (G_X15_hasNext D l as h0 hF o) = cX15_hasNext := rfl
theorem ho_X15_hasNext {D : va_G} {l : Launch} {as : List Value} {h0 hF : AH} {o : Out} : gO (G_X15_hasNext D l as h0 hF o) = "BlockPapers$Workshop$Hanging$Walk" := rfl
theorem hp_X15_hasNext {D : va_G} {l : Launch} {as : List Value} {h0 hF : AH} {o : Out} (pc : Nat) : ∀ z ∈ tableOf (gHd (G_X15_hasNext D l as h0 hF o)), covers z pc = false := hpN
def f_X15_hasNext_j77 (x0 : Nat) (h : AH) : Option (Int32 × AH) :=
  bd (gtI h 13 x0 0) fun v1 =>
  bd (gtR h 13 x0 2) fun v2 =>
  bd (gtR h 12 v2 0) fun v3 =>
  bd (gtR h 1 v3 3) fun v4 =>
  gd (isC h 16 v4) <|
  bd2 (f_J2_size v4 h) fun r6 h7 =>
  if r6 ≤ v1 then (
    some ((0 : Int32), h7)
  ) else (
    some ((1 : Int32), h7)
  )
theorem w_X15_hasNext_j77 (D : va_G) (l : Launch) (hl : l.stackTraces = false) (as : List Value) (h0 : AH) {r : Int32} {hF : AH} (x0 : Nat) (h : AH) (e : f_X15_hasNext_j77 x0 h = some (r, hF)) : V (G_X15_hasNext D l as h0 hF (oI r)) h 77 [(0, .ref x0)] [] := by
  unfold f_X15_hasNext_j77 at e
  refine v_aload_n (pc' := 78) hc_X15_hasNext dX15_hasNext_77 rfl rfl 0 rfl ?_
  refine v_gfI (pc' := 81) hc_X15_hasNext ho_X15_hasNext KX15 0 (Nat.le_of_ble_eq_true rfl) q493 (Or.inl rfl) dX15_hasNext_78 rfl e (fun v1 _ e => ?_)
  refine v_aload_n (pc' := 82) hc_X15_hasNext dX15_hasNext_81 rfl rfl 0 rfl ?_
  refine v_gfR (pc' := 85) hc_X15_hasNext ho_X15_hasNext KX15 2 (Nat.le_of_ble_eq_true rfl) q495 (Or.inl rfl) dX15_hasNext_82 rfl e (fun v2 _ e => ?_)
  refine v_gfR (pc' := 88) hc_X15_hasNext ho_X15_hasNext KX14 0 (Nat.le_of_ble_eq_true rfl) q479 (Or.inl rfl) dX15_hasNext_85 rfl e (fun v3 _ e => ?_)
  refine v_gnR (pc' := 91) hc_X15_hasNext ho_X15_hasNext KX2 3 (Nat.le_of_ble_eq_true rfl) q172 rfl dX15_hasNext_88 rfl e (fun v4 _ e => ?_)
  obtain ⟨c5, e⟩ := gd_of e
  obtain ⟨r6, h7, e8, e⟩ := bd2_of e
  refine k_F (pc' := 96) (x := ⟨"java/util/List", "size", "()I"⟩) (y := ⟨"java/util/ArrayList", "size", "()I"⟩) (ci := 16) (n := 0) hc_X15_hasNext ho_X15_hasNext rfl c5 (w_J2_size D l hl v4 h e8) (wA_l q396) (by decide +kernel) q348 q350 q79 q352 hy_19 ⟨Nat.le_of_ble_eq_true rfl, Nat.le_of_ble_eq_true rfl⟩ rfl rfl (Nat.le_of_ble_eq_true rfl) dX15_hasNext_91 rfl (kS ?_) kN
  refine v_icmp_ge (pt := 103) (pf := 99) hc_X15_hasNext dX15_hasNext_96 rfl rfl e (fun _ e => ?_) (fun _ e => ?_)
  · refine v_iconst (pc' := 104) (v := 0) hc_X15_hasNext dX15_hasNext_103 rfl rfl ?_
    obtain ⟨rfl, rfl⟩ := ret_of e
    exact v_zret hc_X15_hasNext rfl (ft := .boolean) rfl dX15_hasNext_104 rfl rfl
  · refine v_iconst (pc' := 100) (v := 1) hc_X15_hasNext dX15_hasNext_99 rfl rfl ?_
    refine v_goto (pt := 104) hc_X15_hasNext dX15_hasNext_100 rfl ?_
    obtain ⟨rfl, rfl⟩ := ret_of e
    exact v_zret hc_X15_hasNext rfl (ft := .boolean) rfl dX15_hasNext_104 rfl rfl
def fb_X15_hasNext_l0 (rec : Nat → AH → Option (Int32 × AH)) (x0 : Nat) (h : AH) : Option (Int32 × AH) :=
  bd (gtI h 13 x0 0) fun v1 =>
  bd (gtR h 13 x0 2) fun v2 =>
  bd (gtR h 12 v2 0) fun v3 =>
  bd (gtR h 1 v3 3) fun v4 =>
  gd (isC h 16 v4) <|
  bd2 (f_J2_size v4 h) fun r6 h7 =>
  if r6 ≤ v1 then (
    f_X15_hasNext_j77 x0 h7
  ) else (
    bd (gtI h7 13 x0 1) fun v9 =>
    bd (gtR h7 13 x0 2) fun v10 =>
    bd (gtR h7 12 v10 0) fun v11 =>
    bd (gtR h7 1 v11 3) fun v12 =>
    bd (gtI h7 13 x0 0) fun v13 =>
    gd (isC h7 16 v12) <|
    bd2 (f_J2_get v12 v13 h7) fun r15 h16 =>
    gd (isC h16 4 r15) <|
    bd (gtR h16 4 r15 2) fun v19 =>
    gd (isC h16 16 v19) <|
    bd2 (f_J2_size v19 h16) fun r21 h22 =>
    if v9 = r21 then (
      bd (gtI h22 13 x0 0) fun v24 =>
      bd (stF h22 13 x0 0 (.int (v24 + (1 : Int32)))) fun h25 =>
      bd (stF h25 13 x0 1 (.int (0 : Int32))) fun h26 =>
      rec x0 h26
    ) else (
      f_X15_hasNext_j77 x0 h22
    )
  )
def f_X15_hasNext_l0 : Nat → Nat → AH → Option (Int32 × AH)
  | 0 => fun _ _ => none
  | n + 1 => fb_X15_hasNext_l0 (f_X15_hasNext_l0 n) 
theorem w_X15_hasNext_l0 (D : va_G) (l : Launch) (hl : l.stackTraces = false) (as : List Value) (h0 : AH) {r : Int32} {hF : AH} : ∀ (n : Nat) (x0 : Nat) (h : AH), f_X15_hasNext_l0 n x0 h = some (r, hF) → V (G_X15_hasNext D l as h0 hF (oI r)) h 0 [(0, .ref x0)] [] := by
  intro n; induction n with
  | zero => intro x0 h e; exact absurd (show (none : Option (Int32 × AH)) = some _ from e) (fun z => nomatch z)
  | succ n IH =>
    intro x0 h e
    have e : fb_X15_hasNext_l0 (f_X15_hasNext_l0 n) x0 h = some (r, hF) := e
    unfold fb_X15_hasNext_l0 at e
    refine v_aload_n (pc' := 1) hc_X15_hasNext dX15_hasNext_0 rfl rfl 0 rfl ?_
    refine v_gfI (pc' := 4) hc_X15_hasNext ho_X15_hasNext KX15 0 (Nat.le_of_ble_eq_true rfl) q493 (Or.inl rfl) dX15_hasNext_1 rfl e (fun v1 _ e => ?_)
    refine v_aload_n (pc' := 5) hc_X15_hasNext dX15_hasNext_4 rfl rfl 0 rfl ?_
    refine v_gfR (pc' := 8) hc_X15_hasNext ho_X15_hasNext KX15 2 (Nat.le_of_ble_eq_true rfl) q495 (Or.inl rfl) dX15_hasNext_5 rfl e (fun v2 _ e => ?_)
    refine v_gfR (pc' := 11) hc_X15_hasNext ho_X15_hasNext KX14 0 (Nat.le_of_ble_eq_true rfl) q479 (Or.inl rfl) dX15_hasNext_8 rfl e (fun v3 _ e => ?_)
    refine v_gnR (pc' := 14) hc_X15_hasNext ho_X15_hasNext KX2 3 (Nat.le_of_ble_eq_true rfl) q172 rfl dX15_hasNext_11 rfl e (fun v4 _ e => ?_)
    obtain ⟨c5, e⟩ := gd_of e
    obtain ⟨r6, h7, e8, e⟩ := bd2_of e
    refine k_F (pc' := 19) (x := ⟨"java/util/List", "size", "()I"⟩) (y := ⟨"java/util/ArrayList", "size", "()I"⟩) (ci := 16) (n := 0) hc_X15_hasNext ho_X15_hasNext rfl c5 (w_J2_size D l hl v4 h e8) (wA_l q396) (by decide +kernel) q348 q350 q79 q352 hy_19 ⟨Nat.le_of_ble_eq_true rfl, Nat.le_of_ble_eq_true rfl⟩ rfl rfl (Nat.le_of_ble_eq_true rfl) dX15_hasNext_14 rfl (kS ?_) kN
    refine v_icmp_ge (pt := 77) (pf := 22) hc_X15_hasNext dX15_hasNext_19 rfl rfl e (fun _ e => ?_) (fun _ e => ?_)
    · exact w_X15_hasNext_j77 D l hl as h0 x0 h7 e
    · refine v_aload_n (pc' := 23) hc_X15_hasNext dX15_hasNext_22 rfl rfl 0 rfl ?_
      refine v_gfI (pc' := 26) hc_X15_hasNext ho_X15_hasNext KX15 1 (Nat.le_of_ble_eq_true rfl) q494 (Or.inl rfl) dX15_hasNext_23 rfl e (fun v9 _ e => ?_)
      refine v_aload_n (pc' := 27) hc_X15_hasNext dX15_hasNext_26 rfl rfl 0 rfl ?_
      refine v_gfR (pc' := 30) hc_X15_hasNext ho_X15_hasNext KX15 2 (Nat.le_of_ble_eq_true rfl) q495 (Or.inl rfl) dX15_hasNext_27 rfl e (fun v10 _ e => ?_)
      refine v_gfR (pc' := 33) hc_X15_hasNext ho_X15_hasNext KX14 0 (Nat.le_of_ble_eq_true rfl) q479 (Or.inl rfl) dX15_hasNext_30 rfl e (fun v11 _ e => ?_)
      refine v_gnR (pc' := 36) hc_X15_hasNext ho_X15_hasNext KX2 3 (Nat.le_of_ble_eq_true rfl) q172 rfl dX15_hasNext_33 rfl e (fun v12 _ e => ?_)
      refine v_aload_n (pc' := 37) hc_X15_hasNext dX15_hasNext_36 rfl rfl 0 rfl ?_
      refine v_gfI (pc' := 40) hc_X15_hasNext ho_X15_hasNext KX15 0 (Nat.le_of_ble_eq_true rfl) q493 (Or.inl rfl) dX15_hasNext_37 rfl e (fun v13 _ e => ?_)
      obtain ⟨c14, e⟩ := gd_of e
      obtain ⟨r15, h16, e17, e⟩ := bd2_of e
      refine k_F (pc' := 45) (x := ⟨"java/util/List", "get", "(I)Ljava/lang/Object;"⟩) (y := ⟨"java/util/ArrayList", "get", "(I)Ljava/lang/Object;"⟩) (ci := 16) (n := 1) hc_X15_hasNext ho_X15_hasNext rfl c14 (w_J2_get D l hl v12 v13 h7 e17) (wA_l q398) (by decide +kernel) q401 q403 q79 q405 hy_23 ⟨Nat.le_of_ble_eq_true rfl, Nat.le_of_ble_eq_true rfl⟩ rfl rfl (Nat.le_of_ble_eq_true rfl) dX15_hasNext_40 rfl (kS ?_) kN
      obtain ⟨c18, e⟩ := gd_of e
      refine v_cast (pc' := 48) (ci := 4) hc_X15_hasNext ho_X15_hasNext rfl q416 (Or.inl rfl) dX15_hasNext_45 rfl c18 ?_
      refine v_gnR (pc' := 51) hc_X15_hasNext ho_X15_hasNext KX5 2 (Nat.le_of_ble_eq_true rfl) q881 rfl dX15_hasNext_48 rfl e (fun v19 _ e => ?_)
      obtain ⟨c20, e⟩ := gd_of e
      obtain ⟨r21, h22, e23, e⟩ := bd2_of e
      refine k_F (pc' := 56) (x := ⟨"java/util/List", "size", "()I"⟩) (y := ⟨"java/util/ArrayList", "size", "()I"⟩) (ci := 16) (n := 0) hc_X15_hasNext ho_X15_hasNext rfl c20 (w_J2_size D l hl v19 h16 e23) (wA_l q396) (by decide +kernel) q348 q350 q79 q352 hy_19 ⟨Nat.le_of_ble_eq_true rfl, Nat.le_of_ble_eq_true rfl⟩ rfl rfl (Nat.le_of_ble_eq_true rfl) dX15_hasNext_51 rfl (kS ?_) kN
      refine v_icmp_ne (pt := 77) (pf := 59) hc_X15_hasNext dX15_hasNext_56 rfl rfl e (fun _ e => ?_) (fun _ e => ?_)
      · refine v_aload_n (pc' := 60) hc_X15_hasNext dX15_hasNext_59 rfl rfl 0 rfl ?_
        refine v_dup (pc' := 61) hc_X15_hasNext dX15_hasNext_60 rfl rfl ?_
        refine v_gfI (pc' := 64) hc_X15_hasNext ho_X15_hasNext KX15 0 (Nat.le_of_ble_eq_true rfl) q493 (Or.inl rfl) dX15_hasNext_61 rfl e (fun v24 _ e => ?_)
        refine v_iconst (pc' := 65) (v := 1) hc_X15_hasNext dX15_hasNext_64 rfl rfl ?_
        refine v_iadd (pc' := 66) hc_X15_hasNext dX15_hasNext_65 rfl ?_
        refine v_pf (pc' := 69) hc_X15_hasNext ho_X15_hasNext KX15 0 (Nat.le_of_ble_eq_true rfl) q493 (Or.inl rfl) rfl dX15_hasNext_66 rfl rfl rfl e (fun h25 _ e => ?_)
        refine v_aload_n (pc' := 70) hc_X15_hasNext dX15_hasNext_69 rfl rfl 0 rfl ?_
        refine v_iconst (pc' := 71) (v := 0) hc_X15_hasNext dX15_hasNext_70 rfl rfl ?_
        refine v_pf (pc' := 74) hc_X15_hasNext ho_X15_hasNext KX15 1 (Nat.le_of_ble_eq_true rfl) q494 (Or.inl rfl) rfl dX15_hasNext_71 rfl rfl rfl e (fun h26 _ e => ?_)
        refine v_goto (pt := 0) hc_X15_hasNext dX15_hasNext_74 rfl ?_
        exact IH x0 h26 e
      · exact w_X15_hasNext_j77 D l hl as h0 x0 h22 e
def f_X15_hasNext (x0 : Nat) (h : AH) : Option (Int32 × AH) :=
  bd (gtI h 13 x0 0) fun v1 =>
  bd (gtR h 13 x0 2) fun v2 =>
  bd (gtR h 12 v2 0) fun v3 =>
  bd (gtR h 1 v3 3) fun v4 =>
  gd (isC h 16 v4) <|
  bd2 (f_J2_size v4 h) fun r6 h7 =>
  if r6 ≤ v1 then (
    f_X15_hasNext_j77 x0 h7
  ) else (
    bd (gtI h7 13 x0 1) fun v9 =>
    bd (gtR h7 13 x0 2) fun v10 =>
    bd (gtR h7 12 v10 0) fun v11 =>
    bd (gtR h7 1 v11 3) fun v12 =>
    bd (gtI h7 13 x0 0) fun v13 =>
    gd (isC h7 16 v12) <|
    bd2 (f_J2_get v12 v13 h7) fun r15 h16 =>
    gd (isC h16 4 r15) <|
    bd (gtR h16 4 r15 2) fun v19 =>
    gd (isC h16 16 v19) <|
    bd2 (f_J2_size v19 h16) fun r21 h22 =>
    if v9 = r21 then (
      bd (gtI h22 13 x0 0) fun v24 =>
      bd (stF h22 13 x0 0 (.int (v24 + (1 : Int32)))) fun h25 =>
      bd (stF h25 13 x0 1 (.int (0 : Int32))) fun h26 =>
      f_X15_hasNext_l0 NN x0 h26
    ) else (
      f_X15_hasNext_j77 x0 h22
    )
  )
theorem v_X15_hasNext (D : va_G) (l : Launch) (hl : l.stackTraces = false) (as : List Value) (h0 : AH) {r : Int32} {hF : AH} (x0 : Nat) (h : AH) (e : f_X15_hasNext x0 h = some (r, hF)) : V (G_X15_hasNext D l as h0 hF (oI r)) h 0 [(0, .ref x0)] [] := by
  unfold f_X15_hasNext at e
  refine v_aload_n (pc' := 1) hc_X15_hasNext dX15_hasNext_0 rfl rfl 0 rfl ?_
  refine v_gfI (pc' := 4) hc_X15_hasNext ho_X15_hasNext KX15 0 (Nat.le_of_ble_eq_true rfl) q493 (Or.inl rfl) dX15_hasNext_1 rfl e (fun v1 _ e => ?_)
  refine v_aload_n (pc' := 5) hc_X15_hasNext dX15_hasNext_4 rfl rfl 0 rfl ?_
  refine v_gfR (pc' := 8) hc_X15_hasNext ho_X15_hasNext KX15 2 (Nat.le_of_ble_eq_true rfl) q495 (Or.inl rfl) dX15_hasNext_5 rfl e (fun v2 _ e => ?_)
  refine v_gfR (pc' := 11) hc_X15_hasNext ho_X15_hasNext KX14 0 (Nat.le_of_ble_eq_true rfl) q479 (Or.inl rfl) dX15_hasNext_8 rfl e (fun v3 _ e => ?_)
  refine v_gnR (pc' := 14) hc_X15_hasNext ho_X15_hasNext KX2 3 (Nat.le_of_ble_eq_true rfl) q172 rfl dX15_hasNext_11 rfl e (fun v4 _ e => ?_)
  obtain ⟨c5, e⟩ := gd_of e
  obtain ⟨r6, h7, e8, e⟩ := bd2_of e
  refine k_F (pc' := 19) (x := ⟨"java/util/List", "size", "()I"⟩) (y := ⟨"java/util/ArrayList", "size", "()I"⟩) (ci := 16) (n := 0) hc_X15_hasNext ho_X15_hasNext rfl c5 (w_J2_size D l hl v4 h e8) (wA_l q396) (by decide +kernel) q348 q350 q79 q352 hy_19 ⟨Nat.le_of_ble_eq_true rfl, Nat.le_of_ble_eq_true rfl⟩ rfl rfl (Nat.le_of_ble_eq_true rfl) dX15_hasNext_14 rfl (kS ?_) kN
  refine v_icmp_ge (pt := 77) (pf := 22) hc_X15_hasNext dX15_hasNext_19 rfl rfl e (fun _ e => ?_) (fun _ e => ?_)
  · exact w_X15_hasNext_j77 D l hl as h0 x0 h7 e
  · refine v_aload_n (pc' := 23) hc_X15_hasNext dX15_hasNext_22 rfl rfl 0 rfl ?_
    refine v_gfI (pc' := 26) hc_X15_hasNext ho_X15_hasNext KX15 1 (Nat.le_of_ble_eq_true rfl) q494 (Or.inl rfl) dX15_hasNext_23 rfl e (fun v9 _ e => ?_)
    refine v_aload_n (pc' := 27) hc_X15_hasNext dX15_hasNext_26 rfl rfl 0 rfl ?_
    refine v_gfR (pc' := 30) hc_X15_hasNext ho_X15_hasNext KX15 2 (Nat.le_of_ble_eq_true rfl) q495 (Or.inl rfl) dX15_hasNext_27 rfl e (fun v10 _ e => ?_)
    refine v_gfR (pc' := 33) hc_X15_hasNext ho_X15_hasNext KX14 0 (Nat.le_of_ble_eq_true rfl) q479 (Or.inl rfl) dX15_hasNext_30 rfl e (fun v11 _ e => ?_)
    refine v_gnR (pc' := 36) hc_X15_hasNext ho_X15_hasNext KX2 3 (Nat.le_of_ble_eq_true rfl) q172 rfl dX15_hasNext_33 rfl e (fun v12 _ e => ?_)
    refine v_aload_n (pc' := 37) hc_X15_hasNext dX15_hasNext_36 rfl rfl 0 rfl ?_
    refine v_gfI (pc' := 40) hc_X15_hasNext ho_X15_hasNext KX15 0 (Nat.le_of_ble_eq_true rfl) q493 (Or.inl rfl) dX15_hasNext_37 rfl e (fun v13 _ e => ?_)
    obtain ⟨c14, e⟩ := gd_of e
    obtain ⟨r15, h16, e17, e⟩ := bd2_of e
    refine k_F (pc' := 45) (x := ⟨"java/util/List", "get", "(I)Ljava/lang/Object;"⟩) (y := ⟨"java/util/ArrayList", "get", "(I)Ljava/lang/Object;"⟩) (ci := 16) (n := 1) hc_X15_hasNext ho_X15_hasNext rfl c14 (w_J2_get D l hl v12 v13 h7 e17) (wA_l q398) (by decide +kernel) q401 q403 q79 q405 hy_23 ⟨Nat.le_of_ble_eq_true rfl, Nat.le_of_ble_eq_true rfl⟩ rfl rfl (Nat.le_of_ble_eq_true rfl) dX15_hasNext_40 rfl (kS ?_) kN
    obtain ⟨c18, e⟩ := gd_of e
    refine v_cast (pc' := 48) (ci := 4) hc_X15_hasNext ho_X15_hasNext rfl q416 (Or.inl rfl) dX15_hasNext_45 rfl c18 ?_
    refine v_gnR (pc' := 51) hc_X15_hasNext ho_X15_hasNext KX5 2 (Nat.le_of_ble_eq_true rfl) q881 rfl dX15_hasNext_48 rfl e (fun v19 _ e => ?_)
    obtain ⟨c20, e⟩ := gd_of e
    obtain ⟨r21, h22, e23, e⟩ := bd2_of e
    refine k_F (pc' := 56) (x := ⟨"java/util/List", "size", "()I"⟩) (y := ⟨"java/util/ArrayList", "size", "()I"⟩) (ci := 16) (n := 0) hc_X15_hasNext ho_X15_hasNext rfl c20 (w_J2_size D l hl v19 h16 e23) (wA_l q396) (by decide +kernel) q348 q350 q79 q352 hy_19 ⟨Nat.le_of_ble_eq_true rfl, Nat.le_of_ble_eq_true rfl⟩ rfl rfl (Nat.le_of_ble_eq_true rfl) dX15_hasNext_51 rfl (kS ?_) kN
    refine v_icmp_ne (pt := 77) (pf := 59) hc_X15_hasNext dX15_hasNext_56 rfl rfl e (fun _ e => ?_) (fun _ e => ?_)
    · refine v_aload_n (pc' := 60) hc_X15_hasNext dX15_hasNext_59 rfl rfl 0 rfl ?_
      refine v_dup (pc' := 61) hc_X15_hasNext dX15_hasNext_60 rfl rfl ?_
      refine v_gfI (pc' := 64) hc_X15_hasNext ho_X15_hasNext KX15 0 (Nat.le_of_ble_eq_true rfl) q493 (Or.inl rfl) dX15_hasNext_61 rfl e (fun v24 _ e => ?_)
      refine v_iconst (pc' := 65) (v := 1) hc_X15_hasNext dX15_hasNext_64 rfl rfl ?_
      refine v_iadd (pc' := 66) hc_X15_hasNext dX15_hasNext_65 rfl ?_
      refine v_pf (pc' := 69) hc_X15_hasNext ho_X15_hasNext KX15 0 (Nat.le_of_ble_eq_true rfl) q493 (Or.inl rfl) rfl dX15_hasNext_66 rfl rfl rfl e (fun h25 _ e => ?_)
      refine v_aload_n (pc' := 70) hc_X15_hasNext dX15_hasNext_69 rfl rfl 0 rfl ?_
      refine v_iconst (pc' := 71) (v := 0) hc_X15_hasNext dX15_hasNext_70 rfl rfl ?_
      refine v_pf (pc' := 74) hc_X15_hasNext ho_X15_hasNext KX15 1 (Nat.le_of_ble_eq_true rfl) q494 (Or.inl rfl) rfl dX15_hasNext_71 rfl rfl rfl e (fun h26 _ e => ?_)
      refine v_goto (pt := 0) hc_X15_hasNext dX15_hasNext_74 rfl ?_
      exact w_X15_hasNext_l0 D l hl as h0 NN x0 h26 e
    · exact w_X15_hasNext_j77 D l hl as h0 x0 h22 e
theorem w_X15_hasNext (D : va_G) (l : Launch) (hl : l.stackTraces = false) (x0 : Nat) (h : AH) {r : Int32} {hF : AH} (e : f_X15_hasNext x0 h = some (r, hF)) : MetV D l yX15_hasNext (Cond.code yX15_hasNext cX15_hasNext 1 (Option.some .boolean)) 4 112 [.ref x0] h hF (oI r) :=
  met_ofF (by decide +kernel) hl (Nat.le_of_ble_eq_true rfl) rfl (v_X15_hasNext D l hl [.ref x0] h x0 h e)
/-! BlockPapers.requireElement(Z)V  -/
abbrev G_X1_requireElement (D : va_G) (l : Launch) (as : List Value) (h0 hF : AH) (o : Out) : CT := (D, l, (yX1_requireElement.cls, yX1_requireElement, cX1_requireElement, 1, (Option.none : Option FieldType), 6, 89, []), as, h0, hF, o)
theorem hc_X1_requireElement {D : va_G} {l : Launch} {as : List Value} {h0 hF : AH} {o : Out} : gC (G_X1_requireElement D l as h0 hF o) = cX1_requireElement := rfl
theorem ho_X1_requireElement {D : va_G} {l : Launch} {as : List Value} {h0 hF : AH} {o : Out} : gO (G_X1_requireElement D l as h0 hF o) = "BlockPapers" := rfl
theorem hp_X1_requireElement {D : va_G} {l : Launch} {as : List Value} {h0 hF : AH} {o : Out} (pc : Nat) : ∀ z ∈ tableOf (gHd (G_X1_requireElement D l as h0 hF o)), covers z pc = false := hpN
def f_X1_requireElement (x0 : Int32) (h : AH) : Option ((Unit ⊕ Nat) × AH) :=
  if x0 = 0 then (
    bd2 (nwX h 24 6 []) fun a2 h1 =>
    outX h1 a2
  ) else (
    some (.inl (), h)
  )
theorem v_X1_requireElement (D : va_G) (l : Launch) (hl : l.stackTraces = false) (as : List Value) (h0 : AH) {r : (Unit ⊕ Nat)} {hF : AH} (x0 : Int32) (h : AH) (e : f_X1_requireElement x0 h = some (r, hF)) : V (G_X1_requireElement D l as h0 hF ((oX oV) r)) h 0 [(0, .int x0)] [] := by
  unfold f_X1_requireElement at e
  refine v_iload_n (pc' := 1) hc_X1_requireElement dX1_requireElement_0 rfl rfl 0 rfl ?_
  refine v_if_ne (pt := 12) (pf := 4) hc_X1_requireElement dX1_requireElement_1 rfl rfl e (fun _ e => ?_) (fun _ e => ?_)
  · refine v_makeX (pc' := 11) (ci := 24) (names := ["java/lang/RuntimeException", "java/lang/Exception"]) hc_X1_requireElement ho_X1_requireElement hl (by decide +kernel) (by decide +kernel) q440 q102 (by decide +kernel) rfl (by decide) ⟨Nat.le_of_ble_eq_true rfl, Nat.le_of_ble_eq_true rfl⟩ dX1_requireElement_4 dX1_requireElement_7 dX1_requireElement_8 rfl e (fun a2 h1 _ e => ?_)
    refine v_athrow hc_X1_requireElement dX1_requireElement_11 ?_
    exact v_outA (hp_X1_requireElement _) rfl rfl e
  · obtain ⟨rfl, rfl⟩ := ret_of e
    exact v_ret hc_X1_requireElement rfl dX1_requireElement_12 rfl rfl
theorem w_X1_requireElement (D : va_G) (l : Launch) (hl : l.stackTraces = false) (x0 : Int32) (h : AH) {r : (Unit ⊕ Nat)} {hF : AH} (e : f_X1_requireElement x0 h = some (r, hF)) : MetV D l yX1_requireElement (Cond.code yX1_requireElement cX1_requireElement 1 (Option.none : Option FieldType)) 6 89 [.int x0] h hF ((oX oV) r) :=
  met_ofF (by decide +kernel) hl (Nat.le_of_ble_eq_true rfl) rfl (v_X1_requireElement D l hl [.int x0] h x0 h e)
/-! BlockPapers$Workshop$Hanging$Walk.next()LBlockPapers$Drop;  -/
abbrev G_X15_next_2 (D : va_G) (l : Launch) (as : List Value) (h0 hF : AH) (o : Out) : CT := (D, l, (yX15_next_2.cls, yX15_next_2, cX15_next_2, 1, (Option.some (.object "BlockPapers$Drop")), 7, 132, []), as, h0, hF, o)
theorem hc_X15_next_2 {D : va_G} {l : Launch} {as : List Value} {h0 hF : AH} {o : Out} : gC (G_X15_next_2 D l as h0 hF o) = cX15_next_2 := rfl
theorem ho_X15_next_2 {D : va_G} {l : Launch} {as : List Value} {h0 hF : AH} {o : Out} : gO (G_X15_next_2 D l as h0 hF o) = "BlockPapers$Workshop$Hanging$Walk" := rfl
theorem hp_X15_next_2 {D : va_G} {l : Launch} {as : List Value} {h0 hF : AH} {o : Out} (pc : Nat) : ∀ z ∈ tableOf (gHd (G_X15_next_2 D l as h0 hF o)), covers z pc = false := hpN
def f_X15_next_2 (x0 : Nat) (h : AH) : Option ((Nat ⊕ Nat) × AH) :=
  gd (isC h 13 x0) <|
  bd2 (f_X15_hasNext x0 h) fun r2 h3 =>
  bdX (f_X1_requireElement r2 h3) (fun zq26 h6 =>
    outX h6 zq26
  ) fun r5 h6 =>
  bd (gtI h6 13 x0 1) fun v8 =>
  bd (stF h6 13 x0 1 (.int (v8 + (1 : Int32)))) fun h9 =>
  bd (gtR h9 13 x0 2) fun v10 =>
  bd (gtR h9 12 v10 0) fun v11 =>
  bd (gtR h9 1 v11 3) fun v12 =>
  bd (gtI h9 13 x0 0) fun v13 =>
  gd (isC h9 16 v12) <|
  bd2 (f_J2_get v12 v13 h9) fun r15 h16 =>
  gd (isC h16 4 r15) <|
  bd (gtR h16 4 r15 2) fun v19 =>
  bd (gtI h16 13 x0 1) fun v20 =>
  gd (isC h16 16 v19) <|
  bd2 (f_J2_get v19 (v20 - (1 : Int32)) h16) fun r22 h23 =>
  gd (isC h23 10 r22) <|
  some (.inl r22, h23)
theorem v_X15_next_2 (D : va_G) (l : Launch) (hl : l.stackTraces = false) (as : List Value) (h0 : AH) {r : (Nat ⊕ Nat)} {hF : AH} (x0 : Nat) (h : AH) (e : f_X15_next_2 x0 h = some (r, hF)) : V (G_X15_next_2 D l as h0 hF ((oX oR) r)) h 0 [(0, .ref x0)] [] := by
  unfold f_X15_next_2 at e
  refine v_aload_n (pc' := 1) hc_X15_next_2 dX15_next_2_0 rfl rfl 0 rfl ?_
  obtain ⟨c1, e⟩ := gd_of e
  obtain ⟨r2, h3, e4, e⟩ := bd2_of e
  refine k_V (pc' := 4) (ci := 13) (n := 0) hc_X15_next_2 ho_X15_next_2 rfl c1 (w_X15_hasNext D l hl x0 h e4) (wA_l q436) q392 (wA_l q2677) q116 q394 hy_158 ⟨Nat.le_of_ble_eq_true rfl, Nat.le_of_ble_eq_true rfl⟩ rfl rfl (Nat.le_of_ble_eq_true rfl) dX15_next_2_1 rfl (kS ?_) kN
  rcases bdX_of e with ⟨r5, h6, e7, e⟩ | ⟨zq26, h6, e7, e⟩
  · refine k_SN (pc' := 7) (x := ⟨"BlockPapers", "requireElement", "(Z)V"⟩) (n := 1) hc_X15_next_2 ho_X15_next_2 (w_X1_requireElement D l hl r2 h3 e7) q437 q438 q75 q439 hy_159 ⟨Nat.le_of_ble_eq_true rfl, Nat.le_of_ble_eq_true rfl⟩ rfl rfl (Nat.le_of_ble_eq_true rfl) dX15_next_2_4 rfl (kU ?_) kN
    refine v_aload_n (pc' := 8) hc_X15_next_2 dX15_next_2_7 rfl rfl 0 rfl ?_
    refine v_dup (pc' := 9) hc_X15_next_2 dX15_next_2_8 rfl rfl ?_
    refine v_gfI (pc' := 12) hc_X15_next_2 ho_X15_next_2 KX15 1 (Nat.le_of_ble_eq_true rfl) q494 (Or.inl rfl) dX15_next_2_9 rfl e (fun v8 _ e => ?_)
    refine v_iconst (pc' := 13) (v := 1) hc_X15_next_2 dX15_next_2_12 rfl rfl ?_
    refine v_iadd (pc' := 14) hc_X15_next_2 dX15_next_2_13 rfl ?_
    refine v_pf (pc' := 17) hc_X15_next_2 ho_X15_next_2 KX15 1 (Nat.le_of_ble_eq_true rfl) q494 (Or.inl rfl) rfl dX15_next_2_14 rfl rfl rfl e (fun h9 _ e => ?_)
    refine v_aload_n (pc' := 18) hc_X15_next_2 dX15_next_2_17 rfl rfl 0 rfl ?_
    refine v_gfR (pc' := 21) hc_X15_next_2 ho_X15_next_2 KX15 2 (Nat.le_of_ble_eq_true rfl) q495 (Or.inl rfl) dX15_next_2_18 rfl e (fun v10 _ e => ?_)
    refine v_gfR (pc' := 24) hc_X15_next_2 ho_X15_next_2 KX14 0 (Nat.le_of_ble_eq_true rfl) q479 (Or.inl rfl) dX15_next_2_21 rfl e (fun v11 _ e => ?_)
    refine v_gnR (pc' := 27) hc_X15_next_2 ho_X15_next_2 KX2 3 (Nat.le_of_ble_eq_true rfl) q172 rfl dX15_next_2_24 rfl e (fun v12 _ e => ?_)
    refine v_aload_n (pc' := 28) hc_X15_next_2 dX15_next_2_27 rfl rfl 0 rfl ?_
    refine v_gfI (pc' := 31) hc_X15_next_2 ho_X15_next_2 KX15 0 (Nat.le_of_ble_eq_true rfl) q493 (Or.inl rfl) dX15_next_2_28 rfl e (fun v13 _ e => ?_)
    obtain ⟨c14, e⟩ := gd_of e
    obtain ⟨r15, h16, e17, e⟩ := bd2_of e
    refine k_F (pc' := 36) (x := ⟨"java/util/List", "get", "(I)Ljava/lang/Object;"⟩) (y := ⟨"java/util/ArrayList", "get", "(I)Ljava/lang/Object;"⟩) (ci := 16) (n := 1) hc_X15_next_2 ho_X15_next_2 rfl c14 (w_J2_get D l hl v12 v13 h9 e17) (wA_l q398) (by decide +kernel) q401 q403 q79 q405 hy_23 ⟨Nat.le_of_ble_eq_true rfl, Nat.le_of_ble_eq_true rfl⟩ rfl rfl (Nat.le_of_ble_eq_true rfl) dX15_next_2_31 rfl (kS ?_) kN
    obtain ⟨c18, e⟩ := gd_of e
    refine v_cast (pc' := 39) (ci := 4) hc_X15_next_2 ho_X15_next_2 rfl q416 (Or.inl rfl) dX15_next_2_36 rfl c18 ?_
    refine v_gnR (pc' := 42) hc_X15_next_2 ho_X15_next_2 KX5 2 (Nat.le_of_ble_eq_true rfl) q881 rfl dX15_next_2_39 rfl e (fun v19 _ e => ?_)
    refine v_aload_n (pc' := 43) hc_X15_next_2 dX15_next_2_42 rfl rfl 0 rfl ?_
    refine v_gfI (pc' := 46) hc_X15_next_2 ho_X15_next_2 KX15 1 (Nat.le_of_ble_eq_true rfl) q494 (Or.inl rfl) dX15_next_2_43 rfl e (fun v20 _ e => ?_)
    refine v_iconst (pc' := 47) (v := 1) hc_X15_next_2 dX15_next_2_46 rfl rfl ?_
    refine v_isub (pc' := 48) hc_X15_next_2 dX15_next_2_47 rfl ?_
    obtain ⟨c21, e⟩ := gd_of e
    obtain ⟨r22, h23, e24, e⟩ := bd2_of e
    refine k_F (pc' := 53) (x := ⟨"java/util/List", "get", "(I)Ljava/lang/Object;"⟩) (y := ⟨"java/util/ArrayList", "get", "(I)Ljava/lang/Object;"⟩) (ci := 16) (n := 1) hc_X15_next_2 ho_X15_next_2 rfl c21 (w_J2_get D l hl v19 (v20 - (1 : Int32)) h16 e24) (wA_l q398) (by decide +kernel) q401 q403 q79 q405 hy_23 ⟨Nat.le_of_ble_eq_true rfl, Nat.le_of_ble_eq_true rfl⟩ rfl rfl (Nat.le_of_ble_eq_true rfl) dX15_next_2_48 rfl (kS ?_) kN
    obtain ⟨c25, e⟩ := gd_of e
    refine v_cast (pc' := 56) (ci := 10) hc_X15_next_2 ho_X15_next_2 rfl q455 (Or.inl rfl) dX15_next_2_53 rfl c25 ?_
    obtain ⟨rfl, rfl⟩ := ret_of e
    exact v_aret hc_X15_next_2 rfl (Or.inl ⟨_, rfl⟩) (Or.inr ⟨_, rfl⟩) dX15_next_2_56 rfl rfl
  · refine k_SN (pc' := 7) (x := ⟨"BlockPapers", "requireElement", "(Z)V"⟩) (n := 1) hc_X15_next_2 ho_X15_next_2 (w_X1_requireElement D l hl r2 h3 e7) q437 q438 q75 q439 hy_159 ⟨Nat.le_of_ble_eq_true rfl, Nat.le_of_ble_eq_true rfl⟩ rfl rfl (Nat.le_of_ble_eq_true rfl) dX15_next_2_4 rfl kM (kX ?_)
    exact v_outA (hp_X15_next_2 _) rfl rfl e
theorem w_X15_next_2 (D : va_G) (l : Launch) (hl : l.stackTraces = false) (x0 : Nat) (h : AH) {r : (Nat ⊕ Nat)} {hF : AH} (e : f_X15_next_2 x0 h = some (r, hF)) : MetV D l yX15_next_2 (Cond.code yX15_next_2 cX15_next_2 1 (Option.some (.object "BlockPapers$Drop"))) 7 132 [.ref x0] h hF ((oX oR) r) :=
  met_ofF (by decide +kernel) hl (Nat.le_of_ble_eq_true rfl) rfl (v_X15_next_2 D l hl [.ref x0] h x0 h e)
/-! BlockPapers$Workshop$Hanging$Walk.next()Ljava/lang/Object;  -/
abbrev G_X15_next (D : va_G) (l : Launch) (as : List Value) (h0 hF : AH) (o : Out) : CT := (D, l, (yX15_next.cls, yX15_next, cX15_next, 1, (Option.some (.object "java/lang/Object")), 8, 152, []), as, h0, hF, o)
theorem hc_X15_next {D : va_G} {l : Launch} {as : List Value} {h0 hF : AH} {o : Out} : gC (G_X15_next D l as h0 hF o) = cX15_next := rfl
theorem ho_X15_next {D : va_G} {l : Launch} {as : List Value} {h0 hF : AH} {o : Out} : gO (G_X15_next D l as h0 hF o) = "BlockPapers$Workshop$Hanging$Walk" := rfl
theorem hp_X15_next {D : va_G} {l : Launch} {as : List Value} {h0 hF : AH} {o : Out} (pc : Nat) : ∀ z ∈ tableOf (gHd (G_X15_next D l as h0 hF o)), covers z pc = false := hpN
def f_X15_next (x0 : Nat) (h : AH) : Option ((Nat ⊕ Nat) × AH) :=
  gd (isC h 13 x0) <|
  bdX (f_X15_next_2 x0 h) (fun zq5 h3 =>
    outX h3 zq5
  ) fun r2 h3 =>
  some (.inl r2, h3)
theorem v_X15_next (D : va_G) (l : Launch) (hl : l.stackTraces = false) (as : List Value) (h0 : AH) {r : (Nat ⊕ Nat)} {hF : AH} (x0 : Nat) (h : AH) (e : f_X15_next x0 h = some (r, hF)) : V (G_X15_next D l as h0 hF ((oX oR) r)) h 0 [(0, .ref x0)] [] := by
  unfold f_X15_next at e
  refine v_aload_n (pc' := 1) hc_X15_next dX15_next_0 rfl rfl 0 rfl ?_
  obtain ⟨c1, e⟩ := gd_of e
  rcases bdX_of e with ⟨r2, h3, e4, e⟩ | ⟨zq5, h3, e4, e⟩
  · refine k_V (pc' := 4) (ci := 13) (n := 0) hc_X15_next ho_X15_next rfl c1 (w_X15_next_2 D l hl x0 h e4) (wA_l q432) q433 (wA_l q434) q116 q435 hy_160 ⟨Nat.le_of_ble_eq_true rfl, Nat.le_of_ble_eq_true rfl⟩ rfl rfl (Nat.le_of_ble_eq_true rfl) dX15_next_1 rfl (kS ?_) kN
    obtain ⟨rfl, rfl⟩ := ret_of e
    exact v_aret hc_X15_next rfl (Or.inl ⟨_, rfl⟩) (Or.inr ⟨_, rfl⟩) dX15_next_4 rfl rfl
  · refine k_V (pc' := 4) (ci := 13) (n := 0) hc_X15_next ho_X15_next rfl c1 (w_X15_next_2 D l hl x0 h e4) (wA_l q432) q433 (wA_l q434) q116 q435 hy_160 ⟨Nat.le_of_ble_eq_true rfl, Nat.le_of_ble_eq_true rfl⟩ rfl rfl (Nat.le_of_ble_eq_true rfl) dX15_next_1 rfl kM (kX ?_)
    exact v_outA (hp_X15_next _) rfl rfl e
theorem w_X15_next (D : va_G) (l : Launch) (hl : l.stackTraces = false) (x0 : Nat) (h : AH) {r : (Nat ⊕ Nat)} {hF : AH} (e : f_X15_next x0 h = some (r, hF)) : MetV D l yX15_next (Cond.code yX15_next cX15_next 1 (Option.some (.object "java/lang/Object"))) 8 152 [.ref x0] h hF ((oX oR) r) :=
  met_ofF (by decide +kernel) hl (Nat.le_of_ble_eq_true rfl) rfl (v_X15_next D l hl [.ref x0] h x0 h e)
/-! BlockPapers$Workshop.hangOf(I)I  -/
abbrev G_X2_hangOf (D : va_G) (l : Launch) (as : List Value) (h0 hF : AH) (o : Out) : CT := (D, l, (yX2_hangOf.cls, yX2_hangOf, cX2_hangOf, 5, (Option.some .int), 9, 172, []), as, h0, hF, o)
theorem hc_X2_hangOf {D : va_G} {l : Launch} {as : List Value} {h0 hF : AH} {o : Out} : gC (G_X2_hangOf D l as h0 hF o) = cX2_hangOf := rfl
theorem ho_X2_hangOf {D : va_G} {l : Launch} {as : List Value} {h0 hF : AH} {o : Out} : gO (G_X2_hangOf D l as h0 hF o) = "BlockPapers$Workshop" := rfl
theorem hp_X2_hangOf {D : va_G} {l : Launch} {as : List Value} {h0 hF : AH} {o : Out} (pc : Nat) : ∀ z ∈ tableOf (gHd (G_X2_hangOf D l as h0 hF o)), covers z pc = false := hpN
def fb_X2_hangOf_l14 (rec : Int32 → Int32 → Nat → AH → Option ((Int32 ⊕ Nat) × AH)) (x1 : Int32) (x2 : Int32) (x3 : Nat) (h : AH) : Option ((Int32 ⊕ Nat) × AH) :=
  gd (isC h 13 x3) <|
  bd2 (f_X15_hasNext x3 h) fun r2 h3 =>
  if r2 = 0 then (
    some (.inl x2, h3)
  ) else (
    gd (isC h3 13 x3) <|
    bdX (f_X15_next x3 h3) (fun zq11 h7 =>
      outX h7 zq11
    ) fun r6 h7 =>
    gd (isC h7 10 r6) <|
    if x1 = (-1 : Int32) then (
      rec x1 (x2 + (1 : Int32)) x3 h7
    ) else (
      bd (gtI h7 10 r6 0) fun v10 =>
      if v10 = x1 then (
        rec x1 (x2 + (1 : Int32)) x3 h7
      ) else (
        rec x1 (x2 + (0 : Int32)) x3 h7
      )
    )
  )
def f_X2_hangOf_l14 : Nat → Int32 → Int32 → Nat → AH → Option ((Int32 ⊕ Nat) × AH)
  | 0 => fun _ _ _ _ => none
  | n + 1 => fb_X2_hangOf_l14 (f_X2_hangOf_l14 n) 
theorem w_X2_hangOf_l14 (D : va_G) (l : Launch) (hl : l.stackTraces = false) (as : List Value) (h0 : AH) {r : (Int32 ⊕ Nat)} {hF : AH} : ∀ (n : Nat) (x1 : Int32) (x2 : Int32) (x3 : Nat) (h : AH), f_X2_hangOf_l14 n x1 x2 x3 h = some (r, hF) → V (G_X2_hangOf D l as h0 hF ((oX oI) r)) h 14 [(1, .int x1), (2, .int x2), (3, .ref x3)] [] := by
  intro n; induction n with
  | zero => intro x1 x2 x3 h e; exact absurd (show (none : Option ((Int32 ⊕ Nat) × AH)) = some _ from e) (fun z => nomatch z)
  | succ n IH =>
    intro x1 x2 x3 h e
    have e : fb_X2_hangOf_l14 (f_X2_hangOf_l14 n) x1 x2 x3 h = some (r, hF) := e
    unfold fb_X2_hangOf_l14 at e
    refine v_aload_n (pc' := 15) hc_X2_hangOf dX2_hangOf_14 rfl rfl 2 rfl ?_
    obtain ⟨c1, e⟩ := gd_of e
    obtain ⟨r2, h3, e4, e⟩ := bd2_of e
    refine k_F (pc' := 20) (x := ⟨"java/util/Iterator", "hasNext", "()Z"⟩) (y := ⟨"BlockPapers$Workshop$Hanging$Walk", "hasNext", "()Z"⟩) (ci := 13) (n := 0) hc_X2_hangOf ho_X2_hangOf rfl c1 (w_X15_hasNext D l hl x3 h e4) (wA_l q504) (by decide +kernel) q390 q392 q116 q394 hy_109 ⟨Nat.le_of_ble_eq_true rfl, Nat.le_of_ble_eq_true rfl⟩ rfl rfl (Nat.le_of_ble_eq_true rfl) dX2_hangOf_15 rfl (kS ?_) kN
    refine v_if_eq (pt := 59) (pf := 23) hc_X2_hangOf dX2_hangOf_20 rfl rfl e (fun _ e => ?_) (fun _ e => ?_)
    · refine v_iload_n (pc' := 60) hc_X2_hangOf dX2_hangOf_59 rfl rfl 1 rfl ?_
      obtain ⟨rfl, rfl⟩ := ret_of e
      exact v_iret hc_X2_hangOf rfl dX2_hangOf_60 rfl rfl
    · refine v_aload_n (pc' := 24) hc_X2_hangOf dX2_hangOf_23 rfl rfl 2 rfl ?_
      obtain ⟨c5, e⟩ := gd_of e
      rcases bdX_of e with ⟨r6, h7, e8, e⟩ | ⟨zq11, h7, e8, e⟩
      · refine k_F (pc' := 29) (x := ⟨"java/util/Iterator", "next", "()Ljava/lang/Object;"⟩) (y := ⟨"BlockPapers$Workshop$Hanging$Walk", "next", "()Ljava/lang/Object;"⟩) (ci := 13) (n := 0) hc_X2_hangOf ho_X2_hangOf rfl c5 (w_X15_next D l hl x3 h3 e8) (wA_l q506) (by decide +kernel) q427 q429 q116 q431 hy_111 ⟨Nat.le_of_ble_eq_true rfl, Nat.le_of_ble_eq_true rfl⟩ rfl rfl (Nat.le_of_ble_eq_true rfl) dX2_hangOf_24 rfl (kS ?_) kN
        obtain ⟨c9, e⟩ := gd_of e
        refine v_cast (pc' := 32) (ci := 10) hc_X2_hangOf ho_X2_hangOf rfl q507 (Or.inl rfl) dX2_hangOf_29 rfl c9 ?_
        refine v_astore (pc' := 34) (lv' := [(4, .ref r6), (1, .int x1), (2, .int x2), (3, .ref x3)]) hc_X2_hangOf dX2_hangOf_32 rfl (Nat.le_of_ble_eq_true rfl) rfl ?_
        refine v_iload_n (pc' := 35) hc_X2_hangOf dX2_hangOf_34 rfl rfl 2 rfl ?_
        refine v_iload_n (pc' := 36) hc_X2_hangOf dX2_hangOf_35 rfl rfl 1 rfl ?_
        refine v_iconst (pc' := 37) (v := (-1)) hc_X2_hangOf dX2_hangOf_36 rfl rfl ?_
        refine v_icmp_eq (pt := 49) (pf := 40) hc_X2_hangOf dX2_hangOf_37 rfl rfl e (fun _ e => ?_) (fun _ e => ?_)
        · refine v_iconst (pc' := 50) (v := 1) hc_X2_hangOf dX2_hangOf_49 rfl rfl ?_
          refine v_goto (pt := 54) hc_X2_hangOf dX2_hangOf_50 rfl ?_
          refine v_iadd (pc' := 55) hc_X2_hangOf dX2_hangOf_54 rfl ?_
          refine v_istore_n (pc' := 56) (lv' := [(2, .int (x2 + (1 : Int32))), (4, .ref r6), (1, .int x1), (3, .ref x3)]) hc_X2_hangOf dX2_hangOf_55 rfl rfl (Nat.le_of_ble_eq_true rfl) rfl ?_
          refine v_goto (pt := 14) hc_X2_hangOf dX2_hangOf_56 rfl ?_
          refine v_pick [2, 0, 3] rfl ?_
          exact IH x1 (x2 + (1 : Int32)) x3 h7 e
        · refine v_aload (pc' := 42) hc_X2_hangOf dX2_hangOf_40 rfl 0 rfl ?_
          refine v_gnI (pc' := 45) hc_X2_hangOf ho_X2_hangOf KX12 0 (Nat.le_of_ble_eq_true rfl) q1398 rfl dX2_hangOf_42 rfl e (fun v10 _ e => ?_)
          refine v_iload_n (pc' := 46) hc_X2_hangOf dX2_hangOf_45 rfl rfl 1 rfl ?_
          refine v_icmp_ne (pt := 53) (pf := 49) hc_X2_hangOf dX2_hangOf_46 rfl rfl e (fun _ e => ?_) (fun _ e => ?_)
          · refine v_iconst (pc' := 50) (v := 1) hc_X2_hangOf dX2_hangOf_49 rfl rfl ?_
            refine v_goto (pt := 54) hc_X2_hangOf dX2_hangOf_50 rfl ?_
            refine v_iadd (pc' := 55) hc_X2_hangOf dX2_hangOf_54 rfl ?_
            refine v_istore_n (pc' := 56) (lv' := [(2, .int (x2 + (1 : Int32))), (4, .ref r6), (1, .int x1), (3, .ref x3)]) hc_X2_hangOf dX2_hangOf_55 rfl rfl (Nat.le_of_ble_eq_true rfl) rfl ?_
            refine v_goto (pt := 14) hc_X2_hangOf dX2_hangOf_56 rfl ?_
            refine v_pick [2, 0, 3] rfl ?_
            exact IH x1 (x2 + (1 : Int32)) x3 h7 e
          · refine v_iconst (pc' := 54) (v := 0) hc_X2_hangOf dX2_hangOf_53 rfl rfl ?_
            refine v_iadd (pc' := 55) hc_X2_hangOf dX2_hangOf_54 rfl ?_
            refine v_istore_n (pc' := 56) (lv' := [(2, .int (x2 + (0 : Int32))), (4, .ref r6), (1, .int x1), (3, .ref x3)]) hc_X2_hangOf dX2_hangOf_55 rfl rfl (Nat.le_of_ble_eq_true rfl) rfl ?_
            refine v_goto (pt := 14) hc_X2_hangOf dX2_hangOf_56 rfl ?_
            refine v_pick [2, 0, 3] rfl ?_
            exact IH x1 (x2 + (0 : Int32)) x3 h7 e
      · refine k_F (pc' := 29) (x := ⟨"java/util/Iterator", "next", "()Ljava/lang/Object;"⟩) (y := ⟨"BlockPapers$Workshop$Hanging$Walk", "next", "()Ljava/lang/Object;"⟩) (ci := 13) (n := 0) hc_X2_hangOf ho_X2_hangOf rfl c5 (w_X15_next D l hl x3 h3 e8) (wA_l q506) (by decide +kernel) q427 q429 q116 q431 hy_111 ⟨Nat.le_of_ble_eq_true rfl, Nat.le_of_ble_eq_true rfl⟩ rfl rfl (Nat.le_of_ble_eq_true rfl) dX2_hangOf_24 rfl kM (kX ?_)
        exact v_outA (hp_X2_hangOf _) rfl rfl e
def f_X2_hangOf (x0 : Nat) (x1 : Int32) (h : AH) : Option ((Int32 ⊕ Nat) × AH) :=
  bd2 (nwX h 12 1 fsX14) fun a2 h1 =>
  bd2 (f_X14_init a2 x0 h1) fun r3 h4 =>
  gd (isC h4 12 a2) <|
  bd2 (f_X14_iterator a2 h4) fun r7 h8 =>
  f_X2_hangOf_l14 NN x1 (0 : Int32) r7 h8
theorem v_X2_hangOf (D : va_G) (l : Launch) (hl : l.stackTraces = false) (as : List Value) (h0 : AH) {r : (Int32 ⊕ Nat)} {hF : AH} (x0 : Nat) (x1 : Int32) (h : AH) (e : f_X2_hangOf x0 x1 h = some (r, hF)) : V (G_X2_hangOf D l as h0 hF ((oX oI) r)) h 0 [(0, .ref x0), (1, .int x1)] [] := by
  unfold f_X2_hangOf at e
  refine v_iconst (pc' := 1) (v := 0) hc_X2_hangOf dX2_hangOf_0 rfl rfl ?_
  refine v_istore_n (pc' := 2) (lv' := [(2, .int (0 : Int32)), (0, .ref x0), (1, .int x1)]) hc_X2_hangOf dX2_hangOf_1 rfl rfl (Nat.le_of_ble_eq_true rfl) rfl ?_
  refine v_newX (pc' := 5) hc_X2_hangOf ho_X2_hangOf KX14 q472 q473 q115 rfl dfX14 dX2_hangOf_2 rfl e (fun a2 h1 _ e => ?_)
  refine v_dup (pc' := 6) hc_X2_hangOf dX2_hangOf_5 rfl rfl ?_
  refine v_aload_n (pc' := 7) hc_X2_hangOf dX2_hangOf_6 rfl rfl 1 rfl ?_
  obtain ⟨r3, h4, e5, e⟩ := bd2_of e
  refine k_IN (pc' := 10) (x := ⟨"BlockPapers$Workshop$Hanging", "<init>", "(LBlockPapers$Workshop;)V"⟩) (n := 1) hc_X2_hangOf ho_X2_hangOf (w_X14_init D l hl a2 x0 h1 e5) q474 q475 q115 rfl q476 hy_155 ⟨Nat.le_of_ble_eq_true rfl, Nat.le_of_ble_eq_true rfl⟩ rfl rfl (Nat.le_of_ble_eq_true rfl) dX2_hangOf_7 rfl (kU ?_) kN
  obtain ⟨c6, e⟩ := gd_of e
  obtain ⟨r7, h8, e9, e⟩ := bd2_of e
  refine k_V (pc' := 13) (ci := 12) (n := 0) hc_X2_hangOf ho_X2_hangOf rfl c6 (w_X14_iterator D l hl a2 h4 e9) (wA_l q483) q484 (wA_l q485) q115 q486 hy_157 ⟨Nat.le_of_ble_eq_true rfl, Nat.le_of_ble_eq_true rfl⟩ rfl rfl (Nat.le_of_ble_eq_true rfl) dX2_hangOf_10 rfl (kS ?_) kN
  refine v_astore_n (pc' := 14) (lv' := [(3, .ref r7), (2, .int (0 : Int32)), (0, .ref x0), (1, .int x1)]) hc_X2_hangOf dX2_hangOf_13 rfl rfl (Nat.le_of_ble_eq_true rfl) rfl ?_
  refine v_pick [3, 1, 0] rfl ?_
  exact w_X2_hangOf_l14 D l hl as h0 NN x1 (0 : Int32) r7 h8 e
theorem w_X2_hangOf (D : va_G) (l : Launch) (hl : l.stackTraces = false) (x0 : Nat) (x1 : Int32) (h : AH) {r : (Int32 ⊕ Nat)} {hF : AH} (e : f_X2_hangOf x0 x1 h = some (r, hF)) : MetV D l yX2_hangOf (Cond.code yX2_hangOf cX2_hangOf 5 (Option.some .int)) 9 172 [.ref x0, .int x1] h hF ((oX oI) r) :=
  met_ofF (by decide +kernel) hl (Nat.le_of_ble_eq_true rfl) rfl (v_X2_hangOf D l hl [.ref x0, .int x1] h x0 x1 h e)
/-! BlockPapers.rollOf(II)I  -/
abbrev G_X1_rollOf (D : va_G) (l : Launch) (as : List Value) (h0 hF : AH) (o : Out) : CT := (D, l, (yX1_rollOf.cls, yX1_rollOf, cX1_rollOf, 4, (Option.some .int), 10, 196, []), as, h0, hF, o)
theorem hc_X1_rollOf {D : va_G} {l : Launch} {as : List Value} {h0 hF : AH} {o : Out} : gC (G_X1_rollOf D l as h0 hF o) = cX1_rollOf := rfl
theorem ho_X1_rollOf {D : va_G} {l : Launch} {as : List Value} {h0 hF : AH} {o : Out} : gO (G_X1_rollOf D l as h0 hF o) = "BlockPapers" := rfl
theorem hp_X1_rollOf {D : va_G} {l : Launch} {as : List Value} {h0 hF : AH} {o : Out} (pc : Nat) : ∀ z ∈ tableOf (gHd (G_X1_rollOf D l as h0 hF o)), covers z pc = false := hpN
def f_X1_rollOf (x0 : Nat) (x1 : Int32) (x2 : Int32) (h : AH) : Option ((Int32 ⊕ Nat) × AH) :=
  bd (gtR h 0 x0 0) fun v1 =>
  gd (isC h 1 v1) <|
  bdX (f_X2_roll v1 x1 h) (fun zq38 h4 =>
    outX h4 zq38
  ) fun r3 h4 =>
  bd2 (f_X1_inRange x2 (0 : Int32) (8 : Int32) h4) fun r6 h7 =>
  bdX (f_X1_require r6 h7) (fun zq37 h10 =>
    outX h10 zq37
  ) fun r9 h10 =>
  if x2 = 0 then (
    bd (gtI h10 9 r3 0) fun v12 =>
    some (.inl v12, h10)
  ) else (
  if x2 = 1 then (
    bd (gtI h10 9 r3 1) fun v14 =>
    some (.inl v14, h10)
  ) else (
  if x2 = 2 then (
    bd (gtI h10 9 r3 4) fun v16 =>
    some (.inl v16, h10)
  ) else (
  if x2 = 3 then (
    bd (gtI h10 9 r3 3) fun v18 =>
    some (.inl v18, h10)
  ) else (
  if x2 = 4 then (
    bd (gtI h10 9 r3 2) fun v20 =>
    some (.inl v20, h10)
  ) else (
  if x2 = 5 then (
    bd (gtI h10 9 r3 5) fun v22 =>
    some (.inl v22, h10)
  ) else (
  if x2 = 6 then (
    gd (isC h10 9 r3) <|
    bd2 (f_X10_left r3 h10) fun r25 h26 =>
    some (.inl r25, h26)
  ) else (
  if x2 = 7 then (
    bd (gtI h10 9 r3 6) fun v29 =>
    if v29 = 0 then (
      some (.inl (0 : Int32), h10)
    ) else (
      some (.inl (1 : Int32), h10)
    )
  ) else (
  bd (gtR h10 0 x0 0) fun v31 =>
  gd (isC h10 1 v31) <|
  bdX (f_X2_hangOf v31 x1 h10) (fun zq36 h34 =>
    outX h34 zq36
  ) fun r33 h34 =>
  some (.inl r33, h34)
  ))))))))
theorem v_X1_rollOf (D : va_G) (l : Launch) (hl : l.stackTraces = false) (as : List Value) (h0 : AH) {r : (Int32 ⊕ Nat)} {hF : AH} (x0 : Nat) (x1 : Int32) (x2 : Int32) (h : AH) (e : f_X1_rollOf x0 x1 x2 h = some (r, hF)) : V (G_X1_rollOf D l as h0 hF ((oX oI) r)) h 0 [(0, .ref x0), (1, .int x1), (2, .int x2)] [] := by
  unfold f_X1_rollOf at e
  refine v_aload_n (pc' := 1) hc_X1_rollOf dX1_rollOf_0 rfl rfl 0 rfl ?_
  refine v_gfR (pc' := 4) hc_X1_rollOf ho_X1_rollOf KX1 0 (Nat.le_of_ble_eq_true rfl) q235 (Or.inl rfl) dX1_rollOf_1 rfl e (fun v1 _ e => ?_)
  refine v_iload_n (pc' := 5) hc_X1_rollOf dX1_rollOf_4 rfl rfl 1 rfl ?_
  obtain ⟨c2, e⟩ := gd_of e
  rcases bdX_of e with ⟨r3, h4, e5, e⟩ | ⟨zq38, h4, e5, e⟩
  · refine k_V (pc' := 8) (ci := 1) (n := 1) hc_X1_rollOf ho_X1_rollOf rfl c2 (w_X2_roll D l hl v1 x1 h e5) (wA_l q1620) q1286 (wA_l q1287) q76 q1288 hy_63 ⟨Nat.le_of_ble_eq_true rfl, Nat.le_of_ble_eq_true rfl⟩ rfl rfl (Nat.le_of_ble_eq_true rfl) dX1_rollOf_5 rfl (kS ?_) kN
    refine v_astore_n (pc' := 9) (lv' := [(3, .ref r3), (0, .ref x0), (1, .int x1), (2, .int x2)]) hc_X1_rollOf dX1_rollOf_8 rfl rfl (Nat.le_of_ble_eq_true rfl) rfl ?_
    refine v_iload_n (pc' := 10) hc_X1_rollOf dX1_rollOf_9 rfl rfl 3 rfl ?_
    refine v_iconst (pc' := 11) (v := 0) hc_X1_rollOf dX1_rollOf_10 rfl rfl ?_
    refine v_bipush (pc' := 13) (v := 8) hc_X1_rollOf dX1_rollOf_11 rfl rfl ?_
    obtain ⟨r6, h7, e8, e⟩ := bd2_of e
    refine k_S (pc' := 16) (n := 3) hc_X1_rollOf ho_X1_rollOf (w_X1_inRange D l hl x2 (0 : Int32) (8 : Int32) h4 e8) (wA_l q266) q267 q75 q268 hy_39 ⟨Nat.le_of_ble_eq_true rfl, Nat.le_of_ble_eq_true rfl⟩ rfl rfl (Nat.le_of_ble_eq_true rfl) dX1_rollOf_13 rfl (kS ?_) kN
    rcases bdX_of e with ⟨r9, h10, e11, e⟩ | ⟨zq37, h10, e11, e⟩
    · refine k_S (pc' := 19) (n := 1) hc_X1_rollOf ho_X1_rollOf (w_X1_require D l hl r6 h7 e11) (wA_l q269) q270 q75 q271 hy_40 ⟨Nat.le_of_ble_eq_true rfl, Nat.le_of_ble_eq_true rfl⟩ rfl rfl (Nat.le_of_ble_eq_true rfl) dX1_rollOf_16 rfl (kU ?_) kN
      refine v_iload_n (pc' := 20) hc_X1_rollOf dX1_rollOf_19 rfl rfl 3 rfl ?_
      rcases ite_cs e with ⟨n13, e⟩ | ⟨n13, e⟩
      · refine v_tbl (off := 48) (pt := 68) hc_X1_rollOf dX1_rollOf_20 rfl rfl (by rw [n13]; rfl) rfl ?_
        refine v_aload_n (pc' := 69) hc_X1_rollOf dX1_rollOf_68 rfl rfl 0 rfl ?_
        refine v_gnI (pc' := 72) hc_X1_rollOf ho_X1_rollOf KX10 0 (Nat.le_of_ble_eq_true rfl) q1241 rfl dX1_rollOf_69 rfl e (fun v12 _ e => ?_)
        obtain ⟨rfl, rfl⟩ := ret_of e
        exact v_iret hc_X1_rollOf rfl dX1_rollOf_72 rfl rfl
      rcases ite_cs e with ⟨n15, e⟩ | ⟨n15, e⟩
      · refine v_tbl (off := 53) (pt := 73) hc_X1_rollOf dX1_rollOf_20 rfl rfl (by rw [n15]; rfl) rfl ?_
        refine v_aload_n (pc' := 74) hc_X1_rollOf dX1_rollOf_73 rfl rfl 0 rfl ?_
        refine v_gnI (pc' := 77) hc_X1_rollOf ho_X1_rollOf KX10 1 (Nat.le_of_ble_eq_true rfl) q1244 rfl dX1_rollOf_74 rfl e (fun v14 _ e => ?_)
        obtain ⟨rfl, rfl⟩ := ret_of e
        exact v_iret hc_X1_rollOf rfl dX1_rollOf_77 rfl rfl
      rcases ite_cs e with ⟨n17, e⟩ | ⟨n17, e⟩
      · refine v_tbl (off := 58) (pt := 78) hc_X1_rollOf dX1_rollOf_20 rfl rfl (by rw [n17]; rfl) rfl ?_
        refine v_aload_n (pc' := 79) hc_X1_rollOf dX1_rollOf_78 rfl rfl 0 rfl ?_
        refine v_gnI (pc' := 82) hc_X1_rollOf ho_X1_rollOf KX10 4 (Nat.le_of_ble_eq_true rfl) q1253 rfl dX1_rollOf_79 rfl e (fun v16 _ e => ?_)
        obtain ⟨rfl, rfl⟩ := ret_of e
        exact v_iret hc_X1_rollOf rfl dX1_rollOf_82 rfl rfl
      rcases ite_cs e with ⟨n19, e⟩ | ⟨n19, e⟩
      · refine v_tbl (off := 63) (pt := 83) hc_X1_rollOf dX1_rollOf_20 rfl rfl (by rw [n19]; rfl) rfl ?_
        refine v_aload_n (pc' := 84) hc_X1_rollOf dX1_rollOf_83 rfl rfl 0 rfl ?_
        refine v_gnI (pc' := 87) hc_X1_rollOf ho_X1_rollOf KX10 3 (Nat.le_of_ble_eq_true rfl) q1250 rfl dX1_rollOf_84 rfl e (fun v18 _ e => ?_)
        obtain ⟨rfl, rfl⟩ := ret_of e
        exact v_iret hc_X1_rollOf rfl dX1_rollOf_87 rfl rfl
      rcases ite_cs e with ⟨n21, e⟩ | ⟨n21, e⟩
      · refine v_tbl (off := 68) (pt := 88) hc_X1_rollOf dX1_rollOf_20 rfl rfl (by rw [n21]; rfl) rfl ?_
        refine v_aload_n (pc' := 89) hc_X1_rollOf dX1_rollOf_88 rfl rfl 0 rfl ?_
        refine v_gnI (pc' := 92) hc_X1_rollOf ho_X1_rollOf KX10 2 (Nat.le_of_ble_eq_true rfl) q1247 rfl dX1_rollOf_89 rfl e (fun v20 _ e => ?_)
        obtain ⟨rfl, rfl⟩ := ret_of e
        exact v_iret hc_X1_rollOf rfl dX1_rollOf_92 rfl rfl
      rcases ite_cs e with ⟨n23, e⟩ | ⟨n23, e⟩
      · refine v_tbl (off := 73) (pt := 93) hc_X1_rollOf dX1_rollOf_20 rfl rfl (by rw [n23]; rfl) rfl ?_
        refine v_aload_n (pc' := 94) hc_X1_rollOf dX1_rollOf_93 rfl rfl 0 rfl ?_
        refine v_gnI (pc' := 97) hc_X1_rollOf ho_X1_rollOf KX10 5 (Nat.le_of_ble_eq_true rfl) q1257 rfl dX1_rollOf_94 rfl e (fun v22 _ e => ?_)
        obtain ⟨rfl, rfl⟩ := ret_of e
        exact v_iret hc_X1_rollOf rfl dX1_rollOf_97 rfl rfl
      rcases ite_cs e with ⟨n28, e⟩ | ⟨n28, e⟩
      · refine v_tbl (off := 78) (pt := 98) hc_X1_rollOf dX1_rollOf_20 rfl rfl (by rw [n28]; rfl) rfl ?_
        refine v_aload_n (pc' := 99) hc_X1_rollOf dX1_rollOf_98 rfl rfl 0 rfl ?_
        obtain ⟨c24, e⟩ := gd_of e
        obtain ⟨r25, h26, e27, e⟩ := bd2_of e
        refine k_V (pc' := 102) (ci := 9) (n := 0) hc_X1_rollOf ho_X1_rollOf rfl c24 (w_X10_left D l hl r3 h10 e27) (wA_l q1621) q518 (wA_l q519) q109 q520 hy_80 ⟨Nat.le_of_ble_eq_true rfl, Nat.le_of_ble_eq_true rfl⟩ rfl rfl (Nat.le_of_ble_eq_true rfl) dX1_rollOf_99 rfl (kS ?_) kN
        obtain ⟨rfl, rfl⟩ := ret_of e
        exact v_iret hc_X1_rollOf rfl dX1_rollOf_102 rfl rfl
      rcases ite_cs e with ⟨n30, e⟩ | ⟨n30, e⟩
      · refine v_tbl (off := 83) (pt := 103) hc_X1_rollOf dX1_rollOf_20 rfl rfl (by rw [n30]; rfl) rfl ?_
        refine v_aload_n (pc' := 104) hc_X1_rollOf dX1_rollOf_103 rfl rfl 0 rfl ?_
        refine v_gnI (pc' := 107) hc_X1_rollOf ho_X1_rollOf KX10 6 (Nat.le_of_ble_eq_true rfl) q1260 rfl dX1_rollOf_104 rfl e (fun v29 _ e => ?_)
        refine v_if_eq (pt := 114) (pf := 110) hc_X1_rollOf dX1_rollOf_107 rfl rfl e (fun _ e => ?_) (fun _ e => ?_)
        · refine v_iconst (pc' := 115) (v := 0) hc_X1_rollOf dX1_rollOf_114 rfl rfl ?_
          obtain ⟨rfl, rfl⟩ := ret_of e
          exact v_iret hc_X1_rollOf rfl dX1_rollOf_115 rfl rfl
        · refine v_iconst (pc' := 111) (v := 1) hc_X1_rollOf dX1_rollOf_110 rfl rfl ?_
          refine v_goto (pt := 115) hc_X1_rollOf dX1_rollOf_111 rfl ?_
          obtain ⟨rfl, rfl⟩ := ret_of e
          exact v_iret hc_X1_rollOf rfl dX1_rollOf_115 rfl rfl
      refine v_tbl (off := 96) (pt := 116) hc_X1_rollOf dX1_rollOf_20 rfl rfl (lk_c (lk_n n13 rfl) (lk_c (lk_n n15 rfl) (lk_c (lk_n n17 rfl) (lk_c (lk_n n19 rfl) (lk_c (lk_n n21 rfl) (lk_c (lk_n n23 rfl) (lk_c (lk_n n28 rfl) (lk_c (lk_n n30 rfl) lk_z)))))))) rfl ?_
      refine v_aload_n (pc' := 117) hc_X1_rollOf dX1_rollOf_116 rfl rfl 1 rfl ?_
      refine v_gfR (pc' := 120) hc_X1_rollOf ho_X1_rollOf KX1 0 (Nat.le_of_ble_eq_true rfl) q235 (Or.inl rfl) dX1_rollOf_117 rfl e (fun v31 _ e => ?_)
      refine v_iload_n (pc' := 121) hc_X1_rollOf dX1_rollOf_120 rfl rfl 2 rfl ?_
      obtain ⟨c32, e⟩ := gd_of e
      rcases bdX_of e with ⟨r33, h34, e35, e⟩ | ⟨zq36, h34, e35, e⟩
      · refine k_V (pc' := 124) (ci := 1) (n := 1) hc_X1_rollOf ho_X1_rollOf rfl c32 (w_X2_hangOf D l hl v31 x1 h10 e35) (wA_l q468) q469 (wA_l q470) q76 q471 hy_161 ⟨Nat.le_of_ble_eq_true rfl, Nat.le_of_ble_eq_true rfl⟩ rfl rfl (Nat.le_of_ble_eq_true rfl) dX1_rollOf_121 rfl (kS ?_) kN
        obtain ⟨rfl, rfl⟩ := ret_of e
        exact v_iret hc_X1_rollOf rfl dX1_rollOf_124 rfl rfl
      · refine k_V (pc' := 124) (ci := 1) (n := 1) hc_X1_rollOf ho_X1_rollOf rfl c32 (w_X2_hangOf D l hl v31 x1 h10 e35) (wA_l q468) q469 (wA_l q470) q76 q471 hy_161 ⟨Nat.le_of_ble_eq_true rfl, Nat.le_of_ble_eq_true rfl⟩ rfl rfl (Nat.le_of_ble_eq_true rfl) dX1_rollOf_121 rfl kM (kX ?_)
        exact v_outA (hp_X1_rollOf _) rfl rfl e
    · refine k_S (pc' := 19) (n := 1) hc_X1_rollOf ho_X1_rollOf (w_X1_require D l hl r6 h7 e11) (wA_l q269) q270 q75 q271 hy_40 ⟨Nat.le_of_ble_eq_true rfl, Nat.le_of_ble_eq_true rfl⟩ rfl rfl (Nat.le_of_ble_eq_true rfl) dX1_rollOf_16 rfl kM (kX ?_)
      exact v_outA (hp_X1_rollOf _) rfl rfl e
  · refine k_V (pc' := 8) (ci := 1) (n := 1) hc_X1_rollOf ho_X1_rollOf rfl c2 (w_X2_roll D l hl v1 x1 h e5) (wA_l q1620) q1286 (wA_l q1287) q76 q1288 hy_63 ⟨Nat.le_of_ble_eq_true rfl, Nat.le_of_ble_eq_true rfl⟩ rfl rfl (Nat.le_of_ble_eq_true rfl) dX1_rollOf_5 rfl kM (kX ?_)
    exact v_outA (hp_X1_rollOf _) rfl rfl e
theorem w_X1_rollOf (D : va_G) (l : Launch) (hl : l.stackTraces = false) (x0 : Nat) (x1 : Int32) (x2 : Int32) (h : AH) {r : (Int32 ⊕ Nat)} {hF : AH} (e : f_X1_rollOf x0 x1 x2 h = some (r, hF)) : MetV D l yX1_rollOf (Cond.code yX1_rollOf cX1_rollOf 4 (Option.some .int)) 10 196 [.ref x0, .int x1, .int x2] h hF ((oX oI) r) :=
  met_ofF (by decide +kernel) hl (Nat.le_of_ble_eq_true rfl) rfl (v_X1_rollOf D l hl [.ref x0, .int x1, .int x2] h x0 x1 x2 h e)
/-! BlockPapers.giveBack(I)I  -/
abbrev G_X1_giveBack (D : va_G) (l : Launch) (as : List Value) (h0 hF : AH) (o : Out) : CT := (D, l, (yX1_giveBack.cls, yX1_giveBack, cX1_giveBack, 2, (Option.some .int), 14, 344, []), as, h0, hF, o)
theorem hc_X1_giveBack {D : va_G} {l : Launch} {as : List Value} {h0 hF : AH} {o : Out} : gC (G_X1_giveBack D l as h0 hF o) = cX1_giveBack := rfl
theorem ho_X1_giveBack {D : va_G} {l : Launch} {as : List Value} {h0 hF : AH} {o : Out} : gO (G_X1_giveBack D l as h0 hF o) = "BlockPapers" := rfl
theorem hp_X1_giveBack {D : va_G} {l : Launch} {as : List Value} {h0 hF : AH} {o : Out} (pc : Nat) : ∀ z ∈ tableOf (gHd (G_X1_giveBack D l as h0 hF o)), covers z pc = false := hpN
def f_X1_giveBack (x0 : Nat) (x1 : Int32) (h : AH) : Option ((Int32 ⊕ Nat) × AH) :=
  bd2 (nwX h 3 4 fsX4) fun a2 h1 =>
  bd (aE h1 106) fun v3 =>
  bd2 (f_X4_init_3 a2 v3 x1 h1) fun r4 h5 =>
  gd (isC h5 0 x0) <|
  bdX (f_X1_change x0 a2 h5) (fun zq11 h9 =>
    outX h9 zq11
  ) fun r8 h9 =>
  some (.inl r8, h9)
theorem v_X1_giveBack (D : va_G) (l : Launch) (hl : l.stackTraces = false) (as : List Value) (h0 : AH) {r : (Int32 ⊕ Nat)} {hF : AH} (x0 : Nat) (x1 : Int32) (h : AH) (e : f_X1_giveBack x0 x1 h = some (r, hF)) : V (G_X1_giveBack D l as h0 hF ((oX oI) r)) h 0 [(0, .ref x0), (1, .int x1)] [] := by
  unfold f_X1_giveBack at e
  refine v_aload_n (pc' := 1) hc_X1_giveBack dX1_giveBack_0 rfl rfl 0 rfl ?_
  refine v_newX (pc' := 4) hc_X1_giveBack ho_X1_giveBack KX4 q929 q930 q86 rfl dfX4 dX1_giveBack_1 rfl e (fun a2 h1 _ e => ?_)
  refine v_dup (pc' := 5) hc_X1_giveBack dX1_giveBack_4 rfl rfl ?_
  refine v_ldcS (pc' := 7) (tx := "back") (j := 106) hc_X1_giveBack ho_X1_giveBack (by decide +kernel) dX1_giveBack_5 rfl e (fun v3 _ e => ?_)
  refine v_iload_n (pc' := 8) hc_X1_giveBack dX1_giveBack_7 rfl rfl 1 rfl ?_
  obtain ⟨r4, h5, e6, e⟩ := bd2_of e
  refine k_I (pc' := 11) (n := 2) hc_X1_giveBack ho_X1_giveBack (w_X4_init_3 D l hl a2 v3 x1 h1 e6) (wA_l q1577) q1578 q86 q1579 rfl hy_133 ⟨Nat.le_of_ble_eq_true rfl, Nat.le_of_ble_eq_true rfl⟩ rfl rfl (Nat.le_of_ble_eq_true rfl) dX1_giveBack_8 rfl (kU ?_) kN
  obtain ⟨c7, e⟩ := gd_of e
  rcases bdX_of e with ⟨r8, h9, e10, e⟩ | ⟨zq11, h9, e10, e⟩
  · refine k_VX (pc' := 14) (x := ⟨"BlockPapers", "change", "(LBlockPapers$Deed;)I"⟩) (ci := 0) (n := 1) hc_X1_giveBack ho_X1_giveBack rfl c7 (w_X1_change D l hl x0 a2 h5 e10) (wA_l q952) q954 qs8 q75 q955 hy_114 ⟨Nat.le_of_ble_eq_true rfl, Nat.le_of_ble_eq_true rfl⟩ rfl rfl (Nat.le_of_ble_eq_true rfl) dX1_giveBack_11 rfl (kS ?_) kN
    obtain ⟨rfl, rfl⟩ := ret_of e
    exact v_iret hc_X1_giveBack rfl dX1_giveBack_14 rfl rfl
  · refine k_VX (pc' := 14) (x := ⟨"BlockPapers", "change", "(LBlockPapers$Deed;)I"⟩) (ci := 0) (n := 1) hc_X1_giveBack ho_X1_giveBack rfl c7 (w_X1_change D l hl x0 a2 h5 e10) (wA_l q952) q954 qs8 q75 q955 hy_114 ⟨Nat.le_of_ble_eq_true rfl, Nat.le_of_ble_eq_true rfl⟩ rfl rfl (Nat.le_of_ble_eq_true rfl) dX1_giveBack_11 rfl kM (kX ?_)
    exact v_outA (hp_X1_giveBack _) rfl rfl e
theorem w_X1_giveBack (D : va_G) (l : Launch) (hl : l.stackTraces = false) (x0 : Nat) (x1 : Int32) (h : AH) {r : (Int32 ⊕ Nat)} {hF : AH} (e : f_X1_giveBack x0 x1 h = some (r, hF)) : MetV D l yX1_giveBack (Cond.code yX1_giveBack cX1_giveBack 2 (Option.some .int)) 14 344 [.ref x0, .int x1] h hF ((oX oI) r) :=
  met_ofF (by decide +kernel) hl (Nat.le_of_ble_eq_true rfl) rfl (v_X1_giveBack D l hl [.ref x0, .int x1] h x0 x1 h e)
/-! BlockPapers.room(II)I  -/
abbrev G_X1_room (D : va_G) (l : Launch) (as : List Value) (h0 hF : AH) (o : Out) : CT := (D, l, (yX1_room.cls, yX1_room, cX1_room, 3, (Option.some .int), 14, 344, []), as, h0, hF, o)
theorem hc_X1_room {D : va_G} {l : Launch} {as : List Value} {h0 hF : AH} {o : Out} : gC (G_X1_room D l as h0 hF o) = cX1_room := rfl
theorem ho_X1_room {D : va_G} {l : Launch} {as : List Value} {h0 hF : AH} {o : Out} : gO (G_X1_room D l as h0 hF o) = "BlockPapers" := rfl
theorem hp_X1_room {D : va_G} {l : Launch} {as : List Value} {h0 hF : AH} {o : Out} (pc : Nat) : ∀ z ∈ tableOf (gHd (G_X1_room D l as h0 hF o)), covers z pc = false := hpN
def f_X1_room (x0 : Nat) (x1 : Int32) (x2 : Int32) (h : AH) : Option ((Int32 ⊕ Nat) × AH) :=
  bd2 (nwX h 3 4 fsX4) fun a2 h1 =>
  bd (aE h1 107) fun v3 =>
  bd2 (f_X4_init a2 v3 x1 x2 h1) fun r4 h5 =>
  gd (isC h5 0 x0) <|
  bdX (f_X1_change x0 a2 h5) (fun zq11 h9 =>
    outX h9 zq11
  ) fun r8 h9 =>
  some (.inl r8, h9)
theorem v_X1_room (D : va_G) (l : Launch) (hl : l.stackTraces = false) (as : List Value) (h0 : AH) {r : (Int32 ⊕ Nat)} {hF : AH} (x0 : Nat) (x1 : Int32) (x2 : Int32) (h : AH) (e : f_X1_room x0 x1 x2 h = some (r, hF)) : V (G_X1_room D l as h0 hF ((oX oI) r)) h 0 [(0, .ref x0), (1, .int x1), (2, .int x2)] [] := by
  unfold f_X1_room at e
  refine v_aload_n (pc' := 1) hc_X1_room dX1_room_0 rfl rfl 0 rfl ?_
  refine v_newX (pc' := 4) hc_X1_room ho_X1_room KX4 q929 q930 q86 rfl dfX4 dX1_room_1 rfl e (fun a2 h1 _ e => ?_)
  refine v_dup (pc' := 5) hc_X1_room dX1_room_4 rfl rfl ?_
  refine v_ldcS (pc' := 7) (tx := "room") (j := 107) hc_X1_room ho_X1_room (by decide +kernel) dX1_room_5 rfl e (fun v3 _ e => ?_)
  refine v_iload_n (pc' := 8) hc_X1_room dX1_room_7 rfl rfl 1 rfl ?_
  refine v_iload_n (pc' := 9) hc_X1_room dX1_room_8 rfl rfl 2 rfl ?_
  obtain ⟨r4, h5, e6, e⟩ := bd2_of e
  refine k_I (pc' := 12) (n := 3) hc_X1_room ho_X1_room (w_X4_init D l hl a2 v3 x1 x2 h1 e6) (wA_l q932) q933 q86 q934 rfl hy_10 ⟨Nat.le_of_ble_eq_true rfl, Nat.le_of_ble_eq_true rfl⟩ rfl rfl (Nat.le_of_ble_eq_true rfl) dX1_room_9 rfl (kU ?_) kN
  obtain ⟨c7, e⟩ := gd_of e
  rcases bdX_of e with ⟨r8, h9, e10, e⟩ | ⟨zq11, h9, e10, e⟩
  · refine k_VX (pc' := 15) (x := ⟨"BlockPapers", "change", "(LBlockPapers$Deed;)I"⟩) (ci := 0) (n := 1) hc_X1_room ho_X1_room rfl c7 (w_X1_change D l hl x0 a2 h5 e10) (wA_l q952) q954 qs8 q75 q955 hy_114 ⟨Nat.le_of_ble_eq_true rfl, Nat.le_of_ble_eq_true rfl⟩ rfl rfl (Nat.le_of_ble_eq_true rfl) dX1_room_12 rfl (kS ?_) kN
    obtain ⟨rfl, rfl⟩ := ret_of e
    exact v_iret hc_X1_room rfl dX1_room_15 rfl rfl
  · refine k_VX (pc' := 15) (x := ⟨"BlockPapers", "change", "(LBlockPapers$Deed;)I"⟩) (ci := 0) (n := 1) hc_X1_room ho_X1_room rfl c7 (w_X1_change D l hl x0 a2 h5 e10) (wA_l q952) q954 qs8 q75 q955 hy_114 ⟨Nat.le_of_ble_eq_true rfl, Nat.le_of_ble_eq_true rfl⟩ rfl rfl (Nat.le_of_ble_eq_true rfl) dX1_room_12 rfl kM (kX ?_)
    exact v_outA (hp_X1_room _) rfl rfl e
theorem w_X1_room (D : va_G) (l : Launch) (hl : l.stackTraces = false) (x0 : Nat) (x1 : Int32) (x2 : Int32) (h : AH) {r : (Int32 ⊕ Nat)} {hF : AH} (e : f_X1_room x0 x1 x2 h = some (r, hF)) : MetV D l yX1_room (Cond.code yX1_room cX1_room 3 (Option.some .int)) 14 344 [.ref x0, .int x1, .int x2] h hF ((oX oI) r) :=
  met_ofF (by decide +kernel) hl (Nat.le_of_ble_eq_true rfl) rfl (v_X1_room D l hl [.ref x0, .int x1, .int x2] h x0 x1 x2 h e)
/-! BlockPapers.roomOf(II)I  -/
abbrev G_X1_roomOf (D : va_G) (l : Launch) (as : List Value) (h0 hF : AH) (o : Out) : CT := (D, l, (yX1_roomOf.cls, yX1_roomOf, cX1_roomOf, 5, (Option.some .int), 8, 155, []), as, h0, hF, o)
theorem hc_X1_roomOf {D : va_G} {l : Launch} {as : List Value} {h0 hF : AH} {o : Out} : gC (G_X1_roomOf D l as h0 hF o) = cX1_roomOf := rfl
theorem ho_X1_roomOf {D : va_G} {l : Launch} {as : List Value} {h0 hF : AH} {o : Out} : gO (G_X1_roomOf D l as h0 hF o) = "BlockPapers" := rfl
theorem hp_X1_roomOf {D : va_G} {l : Launch} {as : List Value} {h0 hF : AH} {o : Out} (pc : Nat) : ∀ z ∈ tableOf (gHd (G_X1_roomOf D l as h0 hF o)), covers z pc = false := hpN
def f_X1_roomOf (x0 : Nat) (x1 : Int32) (x2 : Int32) (h : AH) : Option ((Int32 ⊕ Nat) × AH) :=
  bd (gtR h 0 x0 0) fun v1 =>
  gd (isC h 1 v1) <|
  bdX (f_X2_room v1 x1 h) (fun zq81 h4 =>
    outX h4 zq81
  ) fun r3 h4 =>
  bd2 (f_X1_inRange x2 (0 : Int32) (7 : Int32) h4) fun r6 h7 =>
  bdX (f_X1_require r6 h7) (fun zq80 h10 =>
    outX h10 zq80
  ) fun r9 h10 =>
  bd (gtR h10 0 x0 0) fun v12 =>
  gd (isC h10 1 v12) <|
  bd2 (f_X2_first v12 r3 h10) fun r14 h15 =>
  optR r14 (
    if x2 = 0 then (
      bd (gtI h15 4 r3 0) fun v18 =>
      some (.inl v18, h15)
    ) else (
    if x2 = 1 then (
      bd (gtI h15 4 r3 1) fun v20 =>
      some (.inl v20, h15)
    ) else (
    if x2 = 2 then (
      bd (gtR h15 4 r3 2) fun v22 =>
      gd (isC h15 16 v22) <|
      bd2 (f_J2_size v22 h15) fun r24 h25 =>
      some (.inl r24, h25)
    ) else (
    if x2 = 3 then (
      some (.inl (-1 : Int32), h15)
    ) else (
    if x2 = 4 then (
      some (.inl (-1 : Int32), h15)
    ) else (
    if x2 = 5 then (
      bd (gtI h15 4 r3 3) fun v30 =>
      some (.inl v30, h15)
    ) else (
    if x2 = 6 then (
      bd (gtI h15 4 r3 4) fun v32 =>
      some (.inl v32, h15)
    ) else (
    gd (isC h15 4 r3) <|
    bd2 (f_X5_isFull r3 h15) fun r35 h36 =>
    if r35 = 0 then (
      bd (gtR h36 0 x0 0) fun v38 =>
      bd (gtR h36 4 r3 2) fun v39 =>
      gd (isC h36 16 v39) <|
      bd2 (f_J2_size v39 h36) fun r41 h42 =>
      gd (isC h42 1 v38) <|
      bd2 (f_X2_begin v38 r3 r41 h42) fun r45 h46 =>
      some (.inl r45, h46)
    ) else (
      some (.inl (-1 : Int32), h36)
    )
    )))))))
  ) fun v17 =>
  if x2 = 0 then (
    bd (gtI h15 4 r3 0) fun v48 =>
    some (.inl v48, h15)
  ) else (
  if x2 = 1 then (
    bd (gtI h15 4 r3 1) fun v50 =>
    some (.inl v50, h15)
  ) else (
  if x2 = 2 then (
    bd (gtR h15 4 r3 2) fun v52 =>
    gd (isC h15 16 v52) <|
    bd2 (f_J2_size v52 h15) fun r54 h55 =>
    some (.inl r54, h55)
  ) else (
  if x2 = 3 then (
    bd (gtI h15 9 v17 0) fun v58 =>
    some (.inl v58, h15)
  ) else (
  if x2 = 4 then (
    bd (gtI h15 9 v17 2) fun v60 =>
    some (.inl v60, h15)
  ) else (
  if x2 = 5 then (
    bd (gtI h15 4 r3 3) fun v62 =>
    some (.inl v62, h15)
  ) else (
  if x2 = 6 then (
    bd (gtI h15 4 r3 4) fun v64 =>
    some (.inl v64, h15)
  ) else (
  gd (isC h15 4 r3) <|
  bd2 (f_X5_isFull r3 h15) fun r67 h68 =>
  if r67 = 0 then (
    bd (gtR h68 0 x0 0) fun v70 =>
    bd (gtR h68 4 r3 2) fun v71 =>
    gd (isC h68 16 v71) <|
    bd2 (f_J2_size v71 h68) fun r73 h74 =>
    gd (isC h74 1 v70) <|
    bd2 (f_X2_begin v70 r3 r73 h74) fun r77 h78 =>
    some (.inl r77, h78)
  ) else (
    some (.inl (-1 : Int32), h68)
  )
  )))))))
theorem v_X1_roomOf (D : va_G) (l : Launch) (hl : l.stackTraces = false) (as : List Value) (h0 : AH) {r : (Int32 ⊕ Nat)} {hF : AH} (x0 : Nat) (x1 : Int32) (x2 : Int32) (h : AH) (e : f_X1_roomOf x0 x1 x2 h = some (r, hF)) : V (G_X1_roomOf D l as h0 hF ((oX oI) r)) h 0 [(0, .ref x0), (1, .int x1), (2, .int x2)] [] := by
  unfold f_X1_roomOf at e
  refine v_aload_n (pc' := 1) hc_X1_roomOf dX1_roomOf_0 rfl rfl 0 rfl ?_
  refine v_gfR (pc' := 4) hc_X1_roomOf ho_X1_roomOf KX1 0 (Nat.le_of_ble_eq_true rfl) q235 (Or.inl rfl) dX1_roomOf_1 rfl e (fun v1 _ e => ?_)
  refine v_iload_n (pc' := 5) hc_X1_roomOf dX1_roomOf_4 rfl rfl 1 rfl ?_
  obtain ⟨c2, e⟩ := gd_of e
  rcases bdX_of e with ⟨r3, h4, e5, e⟩ | ⟨zq81, h4, e5, e⟩
  · refine k_V (pc' := 8) (ci := 1) (n := 1) hc_X1_roomOf ho_X1_roomOf rfl c2 (w_X2_room D l hl v1 x1 h e5) (wA_l q1645) q1311 (wA_l q1312) q76 q1313 hy_69 ⟨Nat.le_of_ble_eq_true rfl, Nat.le_of_ble_eq_true rfl⟩ rfl rfl (Nat.le_of_ble_eq_true rfl) dX1_roomOf_5 rfl (kS ?_) kN
    refine v_astore_n (pc' := 9) (lv' := [(3, .ref r3), (0, .ref x0), (1, .int x1), (2, .int x2)]) hc_X1_roomOf dX1_roomOf_8 rfl rfl (Nat.le_of_ble_eq_true rfl) rfl ?_
    refine v_iload_n (pc' := 10) hc_X1_roomOf dX1_roomOf_9 rfl rfl 3 rfl ?_
    refine v_iconst (pc' := 11) (v := 0) hc_X1_roomOf dX1_roomOf_10 rfl rfl ?_
    refine v_bipush (pc' := 13) (v := 7) hc_X1_roomOf dX1_roomOf_11 rfl rfl ?_
    obtain ⟨r6, h7, e8, e⟩ := bd2_of e
    refine k_S (pc' := 16) (n := 3) hc_X1_roomOf ho_X1_roomOf (w_X1_inRange D l hl x2 (0 : Int32) (7 : Int32) h4 e8) (wA_l q266) q267 q75 q268 hy_39 ⟨Nat.le_of_ble_eq_true rfl, Nat.le_of_ble_eq_true rfl⟩ rfl rfl (Nat.le_of_ble_eq_true rfl) dX1_roomOf_13 rfl (kS ?_) kN
    rcases bdX_of e with ⟨r9, h10, e11, e⟩ | ⟨zq80, h10, e11, e⟩
    · refine k_S (pc' := 19) (n := 1) hc_X1_roomOf ho_X1_roomOf (w_X1_require D l hl r6 h7 e11) (wA_l q269) q270 q75 q271 hy_40 ⟨Nat.le_of_ble_eq_true rfl, Nat.le_of_ble_eq_true rfl⟩ rfl rfl (Nat.le_of_ble_eq_true rfl) dX1_roomOf_16 rfl (kU ?_) kN
      refine v_aload_n (pc' := 20) hc_X1_roomOf dX1_roomOf_19 rfl rfl 1 rfl ?_
      refine v_gfR (pc' := 23) hc_X1_roomOf ho_X1_roomOf KX1 0 (Nat.le_of_ble_eq_true rfl) q235 (Or.inl rfl) dX1_roomOf_20 rfl e (fun v12 _ e => ?_)
      refine v_aload_n (pc' := 24) hc_X1_roomOf dX1_roomOf_23 rfl rfl 0 rfl ?_
      obtain ⟨c13, e⟩ := gd_of e
      obtain ⟨r14, h15, e16, e⟩ := bd2_of e
      replace e := optR_of e
      rcases e with ⟨z, e⟩ | ⟨v17, z, e⟩
      · subst z
        refine k_V (pc' := 27) (ci := 1) (n := 1) hc_X1_roomOf ho_X1_roomOf rfl c13 (w_X2_first D l hl v12 r3 h10 e16) (wA_l q1646) q1319 (wA_l q1320) q76 q1321 hy_71 ⟨Nat.le_of_ble_eq_true rfl, Nat.le_of_ble_eq_true rfl⟩ rfl rfl (Nat.le_of_ble_eq_true rfl) dX1_roomOf_24 rfl (kS ?_) kN
        refine v_astoreN (pc' := 29) (lv' := [(4, .null), (3, .ref r3), (0, .ref x0), (1, .int x1), (2, .int x2)]) hc_X1_roomOf dX1_roomOf_27 rfl (Nat.le_of_ble_eq_true rfl) rfl ?_
        refine v_iload_n (pc' := 30) hc_X1_roomOf dX1_roomOf_29 rfl rfl 4 rfl ?_
        rcases ite_cs e with ⟨n19, e⟩ | ⟨n19, e⟩
        · refine v_tbl (off := 42) (pt := 72) hc_X1_roomOf dX1_roomOf_30 rfl rfl (by rw [n19]; rfl) rfl ?_
          refine v_aload_n (pc' := 73) hc_X1_roomOf dX1_roomOf_72 rfl rfl 1 rfl ?_
          refine v_gnI (pc' := 76) hc_X1_roomOf ho_X1_roomOf KX5 0 (Nat.le_of_ble_eq_true rfl) q875 rfl dX1_roomOf_73 rfl e (fun v18 _ e => ?_)
          obtain ⟨rfl, rfl⟩ := ret_of e
          exact v_iret hc_X1_roomOf rfl dX1_roomOf_76 rfl rfl
        rcases ite_cs e with ⟨n21, e⟩ | ⟨n21, e⟩
        · refine v_tbl (off := 47) (pt := 77) hc_X1_roomOf dX1_roomOf_30 rfl rfl (by rw [n21]; rfl) rfl ?_
          refine v_aload_n (pc' := 78) hc_X1_roomOf dX1_roomOf_77 rfl rfl 1 rfl ?_
          refine v_gnI (pc' := 81) hc_X1_roomOf ho_X1_roomOf KX5 1 (Nat.le_of_ble_eq_true rfl) q878 rfl dX1_roomOf_78 rfl e (fun v20 _ e => ?_)
          obtain ⟨rfl, rfl⟩ := ret_of e
          exact v_iret hc_X1_roomOf rfl dX1_roomOf_81 rfl rfl
        rcases ite_cs e with ⟨n27, e⟩ | ⟨n27, e⟩
        · refine v_tbl (off := 52) (pt := 82) hc_X1_roomOf dX1_roomOf_30 rfl rfl (by rw [n27]; rfl) rfl ?_
          refine v_aload_n (pc' := 83) hc_X1_roomOf dX1_roomOf_82 rfl rfl 1 rfl ?_
          refine v_gnR (pc' := 86) hc_X1_roomOf ho_X1_roomOf KX5 2 (Nat.le_of_ble_eq_true rfl) q883 rfl dX1_roomOf_83 rfl e (fun v22 _ e => ?_)
          obtain ⟨c23, e⟩ := gd_of e
          obtain ⟨r24, h25, e26, e⟩ := bd2_of e
          refine k_F (pc' := 91) (x := ⟨"java/util/List", "size", "()I"⟩) (y := ⟨"java/util/ArrayList", "size", "()I"⟩) (ci := 16) (n := 0) hc_X1_roomOf ho_X1_roomOf rfl c23 (w_J2_size D l hl v22 h15 e26) (wA_l q344) (by decide +kernel) q348 q350 q79 q352 hy_19 ⟨Nat.le_of_ble_eq_true rfl, Nat.le_of_ble_eq_true rfl⟩ rfl rfl (Nat.le_of_ble_eq_true rfl) dX1_roomOf_86 rfl (kS ?_) kN
          obtain ⟨rfl, rfl⟩ := ret_of e
          exact v_iret hc_X1_roomOf rfl dX1_roomOf_91 rfl rfl
        rcases ite_cs e with ⟨n28, e⟩ | ⟨n28, e⟩
        · refine v_tbl (off := 62) (pt := 92) hc_X1_roomOf dX1_roomOf_30 rfl rfl (by rw [n28]; rfl) rfl ?_
          refine v_aloadN (pc' := 94) hc_X1_roomOf dX1_roomOf_92 rfl 0 rfl ?_
          refine v_ifnonnullN (pc' := 97) hc_X1_roomOf dX1_roomOf_94 rfl ?_
          refine v_iconst (pc' := 98) (v := (-1)) hc_X1_roomOf dX1_roomOf_97 rfl rfl ?_
          refine v_goto (pt := 106) hc_X1_roomOf dX1_roomOf_98 rfl ?_
          obtain ⟨rfl, rfl⟩ := ret_of e
          exact v_iret hc_X1_roomOf rfl dX1_roomOf_106 rfl rfl
        rcases ite_cs e with ⟨n29, e⟩ | ⟨n29, e⟩
        · refine v_tbl (off := 77) (pt := 107) hc_X1_roomOf dX1_roomOf_30 rfl rfl (by rw [n29]; rfl) rfl ?_
          refine v_aloadN (pc' := 109) hc_X1_roomOf dX1_roomOf_107 rfl 0 rfl ?_
          refine v_ifnonnullN (pc' := 112) hc_X1_roomOf dX1_roomOf_109 rfl ?_
          refine v_iconst (pc' := 113) (v := (-1)) hc_X1_roomOf dX1_roomOf_112 rfl rfl ?_
          refine v_goto (pt := 121) hc_X1_roomOf dX1_roomOf_113 rfl ?_
          obtain ⟨rfl, rfl⟩ := ret_of e
          exact v_iret hc_X1_roomOf rfl dX1_roomOf_121 rfl rfl
        rcases ite_cs e with ⟨n31, e⟩ | ⟨n31, e⟩
        · refine v_tbl (off := 92) (pt := 122) hc_X1_roomOf dX1_roomOf_30 rfl rfl (by rw [n31]; rfl) rfl ?_
          refine v_aload_n (pc' := 123) hc_X1_roomOf dX1_roomOf_122 rfl rfl 1 rfl ?_
          refine v_gnI (pc' := 126) hc_X1_roomOf ho_X1_roomOf KX5 3 (Nat.le_of_ble_eq_true rfl) q885 rfl dX1_roomOf_123 rfl e (fun v30 _ e => ?_)
          obtain ⟨rfl, rfl⟩ := ret_of e
          exact v_iret hc_X1_roomOf rfl dX1_roomOf_126 rfl rfl
        rcases ite_cs e with ⟨n33, e⟩ | ⟨n33, e⟩
        · refine v_tbl (off := 97) (pt := 127) hc_X1_roomOf dX1_roomOf_30 rfl rfl (by rw [n33]; rfl) rfl ?_
          refine v_aload_n (pc' := 128) hc_X1_roomOf dX1_roomOf_127 rfl rfl 1 rfl ?_
          refine v_gnI (pc' := 131) hc_X1_roomOf ho_X1_roomOf KX5 4 (Nat.le_of_ble_eq_true rfl) q888 rfl dX1_roomOf_128 rfl e (fun v32 _ e => ?_)
          obtain ⟨rfl, rfl⟩ := ret_of e
          exact v_iret hc_X1_roomOf rfl dX1_roomOf_131 rfl rfl
        refine v_tbl (off := 102) (pt := 132) hc_X1_roomOf dX1_roomOf_30 rfl rfl (lk_c (lk_n n19 rfl) (lk_c (lk_n n21 rfl) (lk_c (lk_n n27 rfl) (lk_c (lk_n n28 rfl) (lk_c (lk_n n29 rfl) (lk_c (lk_n n31 rfl) (lk_c (lk_n n33 rfl) lk_z))))))) rfl ?_
        refine v_aload_n (pc' := 133) hc_X1_roomOf dX1_roomOf_132 rfl rfl 1 rfl ?_
        obtain ⟨c34, e⟩ := gd_of e
        obtain ⟨r35, h36, e37, e⟩ := bd2_of e
        refine k_V (pc' := 136) (ci := 4) (n := 0) hc_X1_roomOf ho_X1_roomOf rfl c34 (w_X5_isFull D l hl r3 h15 e37) (wA_l q1647) q546 (wA_l q547) q99 q548 hy_72 ⟨Nat.le_of_ble_eq_true rfl, Nat.le_of_ble_eq_true rfl⟩ rfl rfl (Nat.le_of_ble_eq_true rfl) dX1_roomOf_133 rfl (kS ?_) kN
        refine v_if_eq (pt := 143) (pf := 139) hc_X1_roomOf dX1_roomOf_136 rfl rfl e (fun _ e => ?_) (fun _ e => ?_)
        · refine v_aload_n (pc' := 144) hc_X1_roomOf dX1_roomOf_143 rfl rfl 2 rfl ?_
          refine v_gfR (pc' := 147) hc_X1_roomOf ho_X1_roomOf KX1 0 (Nat.le_of_ble_eq_true rfl) q235 (Or.inl rfl) dX1_roomOf_144 rfl e (fun v38 _ e => ?_)
          refine v_aload_n (pc' := 148) hc_X1_roomOf dX1_roomOf_147 rfl rfl 1 rfl ?_
          refine v_aload_n (pc' := 149) hc_X1_roomOf dX1_roomOf_148 rfl rfl 1 rfl ?_
          refine v_gnR (pc' := 152) hc_X1_roomOf ho_X1_roomOf KX5 2 (Nat.le_of_ble_eq_true rfl) q883 rfl dX1_roomOf_149 rfl e (fun v39 _ e => ?_)
          obtain ⟨c40, e⟩ := gd_of e
          obtain ⟨r41, h42, e43, e⟩ := bd2_of e
          refine k_F (pc' := 157) (x := ⟨"java/util/List", "size", "()I"⟩) (y := ⟨"java/util/ArrayList", "size", "()I"⟩) (ci := 16) (n := 0) hc_X1_roomOf ho_X1_roomOf rfl c40 (w_J2_size D l hl v39 h36 e43) (wA_l q344) (by decide +kernel) q348 q350 q79 q352 hy_19 ⟨Nat.le_of_ble_eq_true rfl, Nat.le_of_ble_eq_true rfl⟩ rfl rfl (Nat.le_of_ble_eq_true rfl) dX1_roomOf_152 rfl (kS ?_) kN
          obtain ⟨c44, e⟩ := gd_of e
          obtain ⟨r45, h46, e47, e⟩ := bd2_of e
          refine k_V (pc' := 160) (ci := 1) (n := 2) hc_X1_roomOf ho_X1_roomOf rfl c44 (w_X2_begin D l hl v38 r3 r41 h42 e47) (wA_l q1648) q1347 (wA_l q1348) q76 q1349 hy_78 ⟨Nat.le_of_ble_eq_true rfl, Nat.le_of_ble_eq_true rfl⟩ rfl rfl (Nat.le_of_ble_eq_true rfl) dX1_roomOf_157 rfl (kS ?_) kN
          obtain ⟨rfl, rfl⟩ := ret_of e
          exact v_iret hc_X1_roomOf rfl dX1_roomOf_160 rfl rfl
        · refine v_iconst (pc' := 140) (v := (-1)) hc_X1_roomOf dX1_roomOf_139 rfl rfl ?_
          refine v_goto (pt := 160) hc_X1_roomOf dX1_roomOf_140 rfl ?_
          obtain ⟨rfl, rfl⟩ := ret_of e
          exact v_iret hc_X1_roomOf rfl dX1_roomOf_160 rfl rfl
      · subst z
        refine k_V (pc' := 27) (ci := 1) (n := 1) hc_X1_roomOf ho_X1_roomOf rfl c13 (w_X2_first D l hl v12 r3 h10 e16) (wA_l q1646) q1319 (wA_l q1320) q76 q1321 hy_71 ⟨Nat.le_of_ble_eq_true rfl, Nat.le_of_ble_eq_true rfl⟩ rfl rfl (Nat.le_of_ble_eq_true rfl) dX1_roomOf_24 rfl (kS ?_) kN
        refine v_astore (pc' := 29) (lv' := [(4, .ref v17), (3, .ref r3), (0, .ref x0), (1, .int x1), (2, .int x2)]) hc_X1_roomOf dX1_roomOf_27 rfl (Nat.le_of_ble_eq_true rfl) rfl ?_
        refine v_iload_n (pc' := 30) hc_X1_roomOf dX1_roomOf_29 rfl rfl 4 rfl ?_
        rcases ite_cs e with ⟨n49, e⟩ | ⟨n49, e⟩
        · refine v_tbl (off := 42) (pt := 72) hc_X1_roomOf dX1_roomOf_30 rfl rfl (by rw [n49]; rfl) rfl ?_
          refine v_aload_n (pc' := 73) hc_X1_roomOf dX1_roomOf_72 rfl rfl 1 rfl ?_
          refine v_gnI (pc' := 76) hc_X1_roomOf ho_X1_roomOf KX5 0 (Nat.le_of_ble_eq_true rfl) q875 rfl dX1_roomOf_73 rfl e (fun v48 _ e => ?_)
          obtain ⟨rfl, rfl⟩ := ret_of e
          exact v_iret hc_X1_roomOf rfl dX1_roomOf_76 rfl rfl
        rcases ite_cs e with ⟨n51, e⟩ | ⟨n51, e⟩
        · refine v_tbl (off := 47) (pt := 77) hc_X1_roomOf dX1_roomOf_30 rfl rfl (by rw [n51]; rfl) rfl ?_
          refine v_aload_n (pc' := 78) hc_X1_roomOf dX1_roomOf_77 rfl rfl 1 rfl ?_
          refine v_gnI (pc' := 81) hc_X1_roomOf ho_X1_roomOf KX5 1 (Nat.le_of_ble_eq_true rfl) q878 rfl dX1_roomOf_78 rfl e (fun v50 _ e => ?_)
          obtain ⟨rfl, rfl⟩ := ret_of e
          exact v_iret hc_X1_roomOf rfl dX1_roomOf_81 rfl rfl
        rcases ite_cs e with ⟨n57, e⟩ | ⟨n57, e⟩
        · refine v_tbl (off := 52) (pt := 82) hc_X1_roomOf dX1_roomOf_30 rfl rfl (by rw [n57]; rfl) rfl ?_
          refine v_aload_n (pc' := 83) hc_X1_roomOf dX1_roomOf_82 rfl rfl 1 rfl ?_
          refine v_gnR (pc' := 86) hc_X1_roomOf ho_X1_roomOf KX5 2 (Nat.le_of_ble_eq_true rfl) q883 rfl dX1_roomOf_83 rfl e (fun v52 _ e => ?_)
          obtain ⟨c53, e⟩ := gd_of e
          obtain ⟨r54, h55, e56, e⟩ := bd2_of e
          refine k_F (pc' := 91) (x := ⟨"java/util/List", "size", "()I"⟩) (y := ⟨"java/util/ArrayList", "size", "()I"⟩) (ci := 16) (n := 0) hc_X1_roomOf ho_X1_roomOf rfl c53 (w_J2_size D l hl v52 h15 e56) (wA_l q344) (by decide +kernel) q348 q350 q79 q352 hy_19 ⟨Nat.le_of_ble_eq_true rfl, Nat.le_of_ble_eq_true rfl⟩ rfl rfl (Nat.le_of_ble_eq_true rfl) dX1_roomOf_86 rfl (kS ?_) kN
          obtain ⟨rfl, rfl⟩ := ret_of e
          exact v_iret hc_X1_roomOf rfl dX1_roomOf_91 rfl rfl
        rcases ite_cs e with ⟨n59, e⟩ | ⟨n59, e⟩
        · refine v_tbl (off := 62) (pt := 92) hc_X1_roomOf dX1_roomOf_30 rfl rfl (by rw [n59]; rfl) rfl ?_
          refine v_aload (pc' := 94) hc_X1_roomOf dX1_roomOf_92 rfl 0 rfl ?_
          refine v_ifnonnull (pt := 101) hc_X1_roomOf dX1_roomOf_94 rfl ?_
          refine v_aload (pc' := 103) hc_X1_roomOf dX1_roomOf_101 rfl 0 rfl ?_
          refine v_gnI (pc' := 106) hc_X1_roomOf ho_X1_roomOf KX10 0 (Nat.le_of_ble_eq_true rfl) q1241 rfl dX1_roomOf_103 rfl e (fun v58 _ e => ?_)
          obtain ⟨rfl, rfl⟩ := ret_of e
          exact v_iret hc_X1_roomOf rfl dX1_roomOf_106 rfl rfl
        rcases ite_cs e with ⟨n61, e⟩ | ⟨n61, e⟩
        · refine v_tbl (off := 77) (pt := 107) hc_X1_roomOf dX1_roomOf_30 rfl rfl (by rw [n61]; rfl) rfl ?_
          refine v_aload (pc' := 109) hc_X1_roomOf dX1_roomOf_107 rfl 0 rfl ?_
          refine v_ifnonnull (pt := 116) hc_X1_roomOf dX1_roomOf_109 rfl ?_
          refine v_aload (pc' := 118) hc_X1_roomOf dX1_roomOf_116 rfl 0 rfl ?_
          refine v_gnI (pc' := 121) hc_X1_roomOf ho_X1_roomOf KX10 2 (Nat.le_of_ble_eq_true rfl) q1247 rfl dX1_roomOf_118 rfl e (fun v60 _ e => ?_)
          obtain ⟨rfl, rfl⟩ := ret_of e
          exact v_iret hc_X1_roomOf rfl dX1_roomOf_121 rfl rfl
        rcases ite_cs e with ⟨n63, e⟩ | ⟨n63, e⟩
        · refine v_tbl (off := 92) (pt := 122) hc_X1_roomOf dX1_roomOf_30 rfl rfl (by rw [n63]; rfl) rfl ?_
          refine v_aload_n (pc' := 123) hc_X1_roomOf dX1_roomOf_122 rfl rfl 1 rfl ?_
          refine v_gnI (pc' := 126) hc_X1_roomOf ho_X1_roomOf KX5 3 (Nat.le_of_ble_eq_true rfl) q885 rfl dX1_roomOf_123 rfl e (fun v62 _ e => ?_)
          obtain ⟨rfl, rfl⟩ := ret_of e
          exact v_iret hc_X1_roomOf rfl dX1_roomOf_126 rfl rfl
        rcases ite_cs e with ⟨n65, e⟩ | ⟨n65, e⟩
        · refine v_tbl (off := 97) (pt := 127) hc_X1_roomOf dX1_roomOf_30 rfl rfl (by rw [n65]; rfl) rfl ?_
          refine v_aload_n (pc' := 128) hc_X1_roomOf dX1_roomOf_127 rfl rfl 1 rfl ?_
          refine v_gnI (pc' := 131) hc_X1_roomOf ho_X1_roomOf KX5 4 (Nat.le_of_ble_eq_true rfl) q888 rfl dX1_roomOf_128 rfl e (fun v64 _ e => ?_)
          obtain ⟨rfl, rfl⟩ := ret_of e
          exact v_iret hc_X1_roomOf rfl dX1_roomOf_131 rfl rfl
        refine v_tbl (off := 102) (pt := 132) hc_X1_roomOf dX1_roomOf_30 rfl rfl (lk_c (lk_n n49 rfl) (lk_c (lk_n n51 rfl) (lk_c (lk_n n57 rfl) (lk_c (lk_n n59 rfl) (lk_c (lk_n n61 rfl) (lk_c (lk_n n63 rfl) (lk_c (lk_n n65 rfl) lk_z))))))) rfl ?_
        refine v_aload_n (pc' := 133) hc_X1_roomOf dX1_roomOf_132 rfl rfl 1 rfl ?_
        obtain ⟨c66, e⟩ := gd_of e
        obtain ⟨r67, h68, e69, e⟩ := bd2_of e
        refine k_V (pc' := 136) (ci := 4) (n := 0) hc_X1_roomOf ho_X1_roomOf rfl c66 (w_X5_isFull D l hl r3 h15 e69) (wA_l q1647) q546 (wA_l q547) q99 q548 hy_72 ⟨Nat.le_of_ble_eq_true rfl, Nat.le_of_ble_eq_true rfl⟩ rfl rfl (Nat.le_of_ble_eq_true rfl) dX1_roomOf_133 rfl (kS ?_) kN
        refine v_if_eq (pt := 143) (pf := 139) hc_X1_roomOf dX1_roomOf_136 rfl rfl e (fun _ e => ?_) (fun _ e => ?_)
        · refine v_aload_n (pc' := 144) hc_X1_roomOf dX1_roomOf_143 rfl rfl 2 rfl ?_
          refine v_gfR (pc' := 147) hc_X1_roomOf ho_X1_roomOf KX1 0 (Nat.le_of_ble_eq_true rfl) q235 (Or.inl rfl) dX1_roomOf_144 rfl e (fun v70 _ e => ?_)
          refine v_aload_n (pc' := 148) hc_X1_roomOf dX1_roomOf_147 rfl rfl 1 rfl ?_
          refine v_aload_n (pc' := 149) hc_X1_roomOf dX1_roomOf_148 rfl rfl 1 rfl ?_
          refine v_gnR (pc' := 152) hc_X1_roomOf ho_X1_roomOf KX5 2 (Nat.le_of_ble_eq_true rfl) q883 rfl dX1_roomOf_149 rfl e (fun v71 _ e => ?_)
          obtain ⟨c72, e⟩ := gd_of e
          obtain ⟨r73, h74, e75, e⟩ := bd2_of e
          refine k_F (pc' := 157) (x := ⟨"java/util/List", "size", "()I"⟩) (y := ⟨"java/util/ArrayList", "size", "()I"⟩) (ci := 16) (n := 0) hc_X1_roomOf ho_X1_roomOf rfl c72 (w_J2_size D l hl v71 h68 e75) (wA_l q344) (by decide +kernel) q348 q350 q79 q352 hy_19 ⟨Nat.le_of_ble_eq_true rfl, Nat.le_of_ble_eq_true rfl⟩ rfl rfl (Nat.le_of_ble_eq_true rfl) dX1_roomOf_152 rfl (kS ?_) kN
          obtain ⟨c76, e⟩ := gd_of e
          obtain ⟨r77, h78, e79, e⟩ := bd2_of e
          refine k_V (pc' := 160) (ci := 1) (n := 2) hc_X1_roomOf ho_X1_roomOf rfl c76 (w_X2_begin D l hl v70 r3 r73 h74 e79) (wA_l q1648) q1347 (wA_l q1348) q76 q1349 hy_78 ⟨Nat.le_of_ble_eq_true rfl, Nat.le_of_ble_eq_true rfl⟩ rfl rfl (Nat.le_of_ble_eq_true rfl) dX1_roomOf_157 rfl (kS ?_) kN
          obtain ⟨rfl, rfl⟩ := ret_of e
          exact v_iret hc_X1_roomOf rfl dX1_roomOf_160 rfl rfl
        · refine v_iconst (pc' := 140) (v := (-1)) hc_X1_roomOf dX1_roomOf_139 rfl rfl ?_
          refine v_goto (pt := 160) hc_X1_roomOf dX1_roomOf_140 rfl ?_
          obtain ⟨rfl, rfl⟩ := ret_of e
          exact v_iret hc_X1_roomOf rfl dX1_roomOf_160 rfl rfl
    · refine k_S (pc' := 19) (n := 1) hc_X1_roomOf ho_X1_roomOf (w_X1_require D l hl r6 h7 e11) (wA_l q269) q270 q75 q271 hy_40 ⟨Nat.le_of_ble_eq_true rfl, Nat.le_of_ble_eq_true rfl⟩ rfl rfl (Nat.le_of_ble_eq_true rfl) dX1_roomOf_16 rfl kM (kX ?_)
      exact v_outA (hp_X1_roomOf _) rfl rfl e
  · refine k_V (pc' := 8) (ci := 1) (n := 1) hc_X1_roomOf ho_X1_roomOf rfl c2 (w_X2_room D l hl v1 x1 h e5) (wA_l q1645) q1311 (wA_l q1312) q76 q1313 hy_69 ⟨Nat.le_of_ble_eq_true rfl, Nat.le_of_ble_eq_true rfl⟩ rfl rfl (Nat.le_of_ble_eq_true rfl) dX1_roomOf_5 rfl kM (kX ?_)
    exact v_outA (hp_X1_roomOf _) rfl rfl e
theorem w_X1_roomOf (D : va_G) (l : Launch) (hl : l.stackTraces = false) (x0 : Nat) (x1 : Int32) (x2 : Int32) (h : AH) {r : (Int32 ⊕ Nat)} {hF : AH} (e : f_X1_roomOf x0 x1 x2 h = some (r, hF)) : MetV D l yX1_roomOf (Cond.code yX1_roomOf cX1_roomOf 5 (Option.some .int)) 8 155 [.ref x0, .int x1, .int x2] h hF ((oX oI) r) :=
  met_ofF (by decide +kernel) hl (Nat.le_of_ble_eq_true rfl) rfl (v_X1_roomOf D l hl [.ref x0, .int x1, .int x2] h x0 x1 x2 h e)
/-! BlockPapers.dropOf(III)I  -/
abbrev G_X1_dropOf (D : va_G) (l : Launch) (as : List Value) (h0 hF : AH) (o : Out) : CT := (D, l, (yX1_dropOf.cls, yX1_dropOf, cX1_dropOf, 6, (Option.some .int), 8, 133, []), as, h0, hF, o)
theorem hc_X1_dropOf {D : va_G} {l : Launch} {as : List Value} {h0 hF : AH} {o : Out} : gC (G_X1_dropOf D l as h0 hF o) = cX1_dropOf := rfl
theorem ho_X1_dropOf {D : va_G} {l : Launch} {as : List Value} {h0 hF : AH} {o : Out} : gO (G_X1_dropOf D l as h0 hF o) = "BlockPapers" := rfl
theorem hp_X1_dropOf {D : va_G} {l : Launch} {as : List Value} {h0 hF : AH} {o : Out} (pc : Nat) : ∀ z ∈ tableOf (gHd (G_X1_dropOf D l as h0 hF o)), covers z pc = false := hpN
def f_X1_dropOf (x0 : Nat) (x1 : Int32) (x2 : Int32) (x3 : Int32) (h : AH) : Option ((Int32 ⊕ Nat) × AH) :=
  bd (gtR h 0 x0 0) fun v1 =>
  gd (isC h 1 v1) <|
  bdX (f_X2_room v1 x1 h) (fun zq35 h4 =>
    outX h4 zq35
  ) fun r3 h4 =>
  bd (gtR h4 4 r3 2) fun v6 =>
  gd (isC h4 16 v6) <|
  bd2 (f_J2_size v6 h4) fun r8 h9 =>
  bd2 (f_X1_inRange x2 (0 : Int32) (r8 - (1 : Int32)) h9) fun r11 h12 =>
  bdX (f_X1_requireElement r11 h12) (fun zq34 h15 =>
    outX h15 zq34
  ) fun r14 h15 =>
  bd2 (f_X1_inRange x3 (0 : Int32) (3 : Int32) h15) fun r17 h18 =>
  bdX (f_X1_require r17 h18) (fun zq33 h21 =>
    outX h21 zq33
  ) fun r20 h21 =>
  bd (gtR h21 4 r3 2) fun v23 =>
  gd (isC h21 16 v23) <|
  bd2 (f_J2_get v23 x2 h21) fun r25 h26 =>
  gd (isC h26 10 r25) <|
  if x3 = 0 then (
    bd (gtI h26 10 r25 0) fun v29 =>
    some (.inl v29, h26)
  ) else (
    if x3 = (1 : Int32) then (
      bd (gtI h26 10 r25 1) fun v30 =>
      some (.inl v30, h26)
    ) else (
      if x3 = (2 : Int32) then (
        bd (gtI h26 10 r25 2) fun v31 =>
        some (.inl v31, h26)
      ) else (
        bd (gtI h26 10 r25 3) fun v32 =>
        some (.inl v32, h26)
      )
    )
  )
theorem v_X1_dropOf (D : va_G) (l : Launch) (hl : l.stackTraces = false) (as : List Value) (h0 : AH) {r : (Int32 ⊕ Nat)} {hF : AH} (x0 : Nat) (x1 : Int32) (x2 : Int32) (x3 : Int32) (h : AH) (e : f_X1_dropOf x0 x1 x2 x3 h = some (r, hF)) : V (G_X1_dropOf D l as h0 hF ((oX oI) r)) h 0 [(0, .ref x0), (1, .int x1), (2, .int x2), (3, .int x3)] [] := by
  unfold f_X1_dropOf at e
  refine v_aload_n (pc' := 1) hc_X1_dropOf dX1_dropOf_0 rfl rfl 0 rfl ?_
  refine v_gfR (pc' := 4) hc_X1_dropOf ho_X1_dropOf KX1 0 (Nat.le_of_ble_eq_true rfl) q235 (Or.inl rfl) dX1_dropOf_1 rfl e (fun v1 _ e => ?_)
  refine v_iload_n (pc' := 5) hc_X1_dropOf dX1_dropOf_4 rfl rfl 1 rfl ?_
  obtain ⟨c2, e⟩ := gd_of e
  rcases bdX_of e with ⟨r3, h4, e5, e⟩ | ⟨zq35, h4, e5, e⟩
  · refine k_V (pc' := 8) (ci := 1) (n := 1) hc_X1_dropOf ho_X1_dropOf rfl c2 (w_X2_room D l hl v1 x1 h e5) (wA_l q1645) q1311 (wA_l q1312) q76 q1313 hy_69 ⟨Nat.le_of_ble_eq_true rfl, Nat.le_of_ble_eq_true rfl⟩ rfl rfl (Nat.le_of_ble_eq_true rfl) dX1_dropOf_5 rfl (kS ?_) kN
    refine v_astore (pc' := 10) (lv' := [(4, .ref r3), (0, .ref x0), (1, .int x1), (2, .int x2), (3, .int x3)]) hc_X1_dropOf dX1_dropOf_8 rfl (Nat.le_of_ble_eq_true rfl) rfl ?_
    refine v_iload_n (pc' := 11) hc_X1_dropOf dX1_dropOf_10 rfl rfl 3 rfl ?_
    refine v_iconst (pc' := 12) (v := 0) hc_X1_dropOf dX1_dropOf_11 rfl rfl ?_
    refine v_aload (pc' := 14) hc_X1_dropOf dX1_dropOf_12 rfl 0 rfl ?_
    refine v_gnR (pc' := 17) hc_X1_dropOf ho_X1_dropOf KX5 2 (Nat.le_of_ble_eq_true rfl) q883 rfl dX1_dropOf_14 rfl e (fun v6 _ e => ?_)
    obtain ⟨c7, e⟩ := gd_of e
    obtain ⟨r8, h9, e10, e⟩ := bd2_of e
    refine k_F (pc' := 22) (x := ⟨"java/util/List", "size", "()I"⟩) (y := ⟨"java/util/ArrayList", "size", "()I"⟩) (ci := 16) (n := 0) hc_X1_dropOf ho_X1_dropOf rfl c7 (w_J2_size D l hl v6 h4 e10) (wA_l q344) (by decide +kernel) q348 q350 q79 q352 hy_19 ⟨Nat.le_of_ble_eq_true rfl, Nat.le_of_ble_eq_true rfl⟩ rfl rfl (Nat.le_of_ble_eq_true rfl) dX1_dropOf_17 rfl (kS ?_) kN
    refine v_iconst (pc' := 23) (v := 1) hc_X1_dropOf dX1_dropOf_22 rfl rfl ?_
    refine v_isub (pc' := 24) hc_X1_dropOf dX1_dropOf_23 rfl ?_
    obtain ⟨r11, h12, e13, e⟩ := bd2_of e
    refine k_S (pc' := 27) (n := 3) hc_X1_dropOf ho_X1_dropOf (w_X1_inRange D l hl x2 (0 : Int32) (r8 - (1 : Int32)) h9 e13) (wA_l q266) q267 q75 q268 hy_39 ⟨Nat.le_of_ble_eq_true rfl, Nat.le_of_ble_eq_true rfl⟩ rfl rfl (Nat.le_of_ble_eq_true rfl) dX1_dropOf_24 rfl (kS ?_) kN
    rcases bdX_of e with ⟨r14, h15, e16, e⟩ | ⟨zq34, h15, e16, e⟩
    · refine k_S (pc' := 30) (n := 1) hc_X1_dropOf ho_X1_dropOf (w_X1_requireElement D l hl r11 h12 e16) (wA_l q1657) q438 q75 q439 hy_159 ⟨Nat.le_of_ble_eq_true rfl, Nat.le_of_ble_eq_true rfl⟩ rfl rfl (Nat.le_of_ble_eq_true rfl) dX1_dropOf_27 rfl (kU ?_) kN
      refine v_iload_n (pc' := 31) hc_X1_dropOf dX1_dropOf_30 rfl rfl 4 rfl ?_
      refine v_iconst (pc' := 32) (v := 0) hc_X1_dropOf dX1_dropOf_31 rfl rfl ?_
      refine v_iconst (pc' := 33) (v := 3) hc_X1_dropOf dX1_dropOf_32 rfl rfl ?_
      obtain ⟨r17, h18, e19, e⟩ := bd2_of e
      refine k_S (pc' := 36) (n := 3) hc_X1_dropOf ho_X1_dropOf (w_X1_inRange D l hl x3 (0 : Int32) (3 : Int32) h15 e19) (wA_l q266) q267 q75 q268 hy_39 ⟨Nat.le_of_ble_eq_true rfl, Nat.le_of_ble_eq_true rfl⟩ rfl rfl (Nat.le_of_ble_eq_true rfl) dX1_dropOf_33 rfl (kS ?_) kN
      rcases bdX_of e with ⟨r20, h21, e22, e⟩ | ⟨zq33, h21, e22, e⟩
      · refine k_S (pc' := 39) (n := 1) hc_X1_dropOf ho_X1_dropOf (w_X1_require D l hl r17 h18 e22) (wA_l q269) q270 q75 q271 hy_40 ⟨Nat.le_of_ble_eq_true rfl, Nat.le_of_ble_eq_true rfl⟩ rfl rfl (Nat.le_of_ble_eq_true rfl) dX1_dropOf_36 rfl (kU ?_) kN
        refine v_aload (pc' := 41) hc_X1_dropOf dX1_dropOf_39 rfl 0 rfl ?_
        refine v_gnR (pc' := 44) hc_X1_dropOf ho_X1_dropOf KX5 2 (Nat.le_of_ble_eq_true rfl) q883 rfl dX1_dropOf_41 rfl e (fun v23 _ e => ?_)
        refine v_iload_n (pc' := 45) hc_X1_dropOf dX1_dropOf_44 rfl rfl 3 rfl ?_
        obtain ⟨c24, e⟩ := gd_of e
        obtain ⟨r25, h26, e27, e⟩ := bd2_of e
        refine k_F (pc' := 50) (x := ⟨"java/util/List", "get", "(I)Ljava/lang/Object;"⟩) (y := ⟨"java/util/ArrayList", "get", "(I)Ljava/lang/Object;"⟩) (ci := 16) (n := 1) hc_X1_dropOf ho_X1_dropOf rfl c24 (w_J2_get D l hl v23 x2 h21 e27) (wA_l q1568) (by decide +kernel) q401 q403 q79 q405 hy_23 ⟨Nat.le_of_ble_eq_true rfl, Nat.le_of_ble_eq_true rfl⟩ rfl rfl (Nat.le_of_ble_eq_true rfl) dX1_dropOf_45 rfl (kS ?_) kN
        obtain ⟨c28, e⟩ := gd_of e
        refine v_cast (pc' := 53) (ci := 10) hc_X1_dropOf ho_X1_dropOf rfl q1658 (Or.inl rfl) dX1_dropOf_50 rfl c28 ?_
        refine v_astore (pc' := 55) (lv' := [(5, .ref r25), (4, .ref r3), (0, .ref x0), (1, .int x1), (2, .int x2), (3, .int x3)]) hc_X1_dropOf dX1_dropOf_53 rfl (Nat.le_of_ble_eq_true rfl) rfl ?_
        refine v_iload_n (pc' := 56) hc_X1_dropOf dX1_dropOf_55 rfl rfl 5 rfl ?_
        refine v_if_ne (pt := 67) (pf := 59) hc_X1_dropOf dX1_dropOf_56 rfl rfl e (fun _ e => ?_) (fun _ e => ?_)
        · refine v_aload (pc' := 61) hc_X1_dropOf dX1_dropOf_59 rfl 0 rfl ?_
          refine v_gnI (pc' := 64) hc_X1_dropOf ho_X1_dropOf KX12 0 (Nat.le_of_ble_eq_true rfl) q1399 rfl dX1_dropOf_61 rfl e (fun v29 _ e => ?_)
          refine v_goto (pt := 98) hc_X1_dropOf dX1_dropOf_64 rfl ?_
          obtain ⟨rfl, rfl⟩ := ret_of e
          exact v_iret hc_X1_dropOf rfl dX1_dropOf_98 rfl rfl
        · refine v_iload_n (pc' := 68) hc_X1_dropOf dX1_dropOf_67 rfl rfl 5 rfl ?_
          refine v_iconst (pc' := 69) (v := 1) hc_X1_dropOf dX1_dropOf_68 rfl rfl ?_
          refine v_icmp_ne (pt := 80) (pf := 72) hc_X1_dropOf dX1_dropOf_69 rfl rfl e (fun _ e => ?_) (fun _ e => ?_)
          · refine v_aload (pc' := 74) hc_X1_dropOf dX1_dropOf_72 rfl 0 rfl ?_
            refine v_gnI (pc' := 77) hc_X1_dropOf ho_X1_dropOf KX12 1 (Nat.le_of_ble_eq_true rfl) q1402 rfl dX1_dropOf_74 rfl e (fun v30 _ e => ?_)
            refine v_goto (pt := 98) hc_X1_dropOf dX1_dropOf_77 rfl ?_
            obtain ⟨rfl, rfl⟩ := ret_of e
            exact v_iret hc_X1_dropOf rfl dX1_dropOf_98 rfl rfl
          · refine v_iload_n (pc' := 81) hc_X1_dropOf dX1_dropOf_80 rfl rfl 5 rfl ?_
            refine v_iconst (pc' := 82) (v := 2) hc_X1_dropOf dX1_dropOf_81 rfl rfl ?_
            refine v_icmp_ne (pt := 93) (pf := 85) hc_X1_dropOf dX1_dropOf_82 rfl rfl e (fun _ e => ?_) (fun _ e => ?_)
            · refine v_aload (pc' := 87) hc_X1_dropOf dX1_dropOf_85 rfl 0 rfl ?_
              refine v_gnI (pc' := 90) hc_X1_dropOf ho_X1_dropOf KX12 2 (Nat.le_of_ble_eq_true rfl) q1405 rfl dX1_dropOf_87 rfl e (fun v31 _ e => ?_)
              refine v_goto (pt := 98) hc_X1_dropOf dX1_dropOf_90 rfl ?_
              obtain ⟨rfl, rfl⟩ := ret_of e
              exact v_iret hc_X1_dropOf rfl dX1_dropOf_98 rfl rfl
            · refine v_aload (pc' := 95) hc_X1_dropOf dX1_dropOf_93 rfl 0 rfl ?_
              refine v_gnI (pc' := 98) hc_X1_dropOf ho_X1_dropOf KX12 3 (Nat.le_of_ble_eq_true rfl) q1407 rfl dX1_dropOf_95 rfl e (fun v32 _ e => ?_)
              obtain ⟨rfl, rfl⟩ := ret_of e
              exact v_iret hc_X1_dropOf rfl dX1_dropOf_98 rfl rfl
      · refine k_S (pc' := 39) (n := 1) hc_X1_dropOf ho_X1_dropOf (w_X1_require D l hl r17 h18 e22) (wA_l q269) q270 q75 q271 hy_40 ⟨Nat.le_of_ble_eq_true rfl, Nat.le_of_ble_eq_true rfl⟩ rfl rfl (Nat.le_of_ble_eq_true rfl) dX1_dropOf_36 rfl kM (kX ?_)
        exact v_outA (hp_X1_dropOf _) rfl rfl e
    · refine k_S (pc' := 30) (n := 1) hc_X1_dropOf ho_X1_dropOf (w_X1_requireElement D l hl r11 h12 e16) (wA_l q1657) q438 q75 q439 hy_159 ⟨Nat.le_of_ble_eq_true rfl, Nat.le_of_ble_eq_true rfl⟩ rfl rfl (Nat.le_of_ble_eq_true rfl) dX1_dropOf_27 rfl kM (kX ?_)
      exact v_outA (hp_X1_dropOf _) rfl rfl e
  · refine k_V (pc' := 8) (ci := 1) (n := 1) hc_X1_dropOf ho_X1_dropOf rfl c2 (w_X2_room D l hl v1 x1 h e5) (wA_l q1645) q1311 (wA_l q1312) q76 q1313 hy_69 ⟨Nat.le_of_ble_eq_true rfl, Nat.le_of_ble_eq_true rfl⟩ rfl rfl (Nat.le_of_ble_eq_true rfl) dX1_dropOf_5 rfl kM (kX ?_)
    exact v_outA (hp_X1_dropOf _) rfl rfl e
theorem w_X1_dropOf (D : va_G) (l : Launch) (hl : l.stackTraces = false) (x0 : Nat) (x1 : Int32) (x2 : Int32) (x3 : Int32) (h : AH) {r : (Int32 ⊕ Nat)} {hF : AH} (e : f_X1_dropOf x0 x1 x2 x3 h = some (r, hF)) : MetV D l yX1_dropOf (Cond.code yX1_dropOf cX1_dropOf 6 (Option.some .int)) 8 133 [.ref x0, .int x1, .int x2, .int x3] h hF ((oX oI) r) :=
  met_ofF (by decide +kernel) hl (Nat.le_of_ble_eq_true rfl) rfl (v_X1_dropOf D l hl [.ref x0, .int x1, .int x2, .int x3] h x0 x1 x2 x3 h e)
/-! BlockPapers.hang(II)I  -/
abbrev G_X1_hang (D : va_G) (l : Launch) (as : List Value) (h0 hF : AH) (o : Out) : CT := (D, l, (yX1_hang.cls, yX1_hang, cX1_hang, 3, (Option.some .int), 14, 344, []), as, h0, hF, o)
theorem hc_X1_hang {D : va_G} {l : Launch} {as : List Value} {h0 hF : AH} {o : Out} : gC (G_X1_hang D l as h0 hF o) = cX1_hang := rfl
theorem ho_X1_hang {D : va_G} {l : Launch} {as : List Value} {h0 hF : AH} {o : Out} : gO (G_X1_hang D l as h0 hF o) = "BlockPapers" := rfl
theorem hp_X1_hang {D : va_G} {l : Launch} {as : List Value} {h0 hF : AH} {o : Out} (pc : Nat) : ∀ z ∈ tableOf (gHd (G_X1_hang D l as h0 hF o)), covers z pc = false := hpN
def f_X1_hang (x0 : Nat) (x1 : Int32) (x2 : Int32) (h : AH) : Option ((Int32 ⊕ Nat) × AH) :=
  bd2 (nwX h 3 4 fsX4) fun a2 h1 =>
  bd (aE h1 108) fun v3 =>
  bd2 (f_X4_init a2 v3 x1 x2 h1) fun r4 h5 =>
  gd (isC h5 0 x0) <|
  bdX (f_X1_change x0 a2 h5) (fun zq11 h9 =>
    outX h9 zq11
  ) fun r8 h9 =>
  some (.inl r8, h9)
theorem v_X1_hang (D : va_G) (l : Launch) (hl : l.stackTraces = false) (as : List Value) (h0 : AH) {r : (Int32 ⊕ Nat)} {hF : AH} (x0 : Nat) (x1 : Int32) (x2 : Int32) (h : AH) (e : f_X1_hang x0 x1 x2 h = some (r, hF)) : V (G_X1_hang D l as h0 hF ((oX oI) r)) h 0 [(0, .ref x0), (1, .int x1), (2, .int x2)] [] := by
  unfold f_X1_hang at e
  refine v_aload_n (pc' := 1) hc_X1_hang dX1_hang_0 rfl rfl 0 rfl ?_
  refine v_newX (pc' := 4) hc_X1_hang ho_X1_hang KX4 q929 q930 q86 rfl dfX4 dX1_hang_1 rfl e (fun a2 h1 _ e => ?_)
  refine v_dup (pc' := 5) hc_X1_hang dX1_hang_4 rfl rfl ?_
  refine v_ldcS (pc' := 7) (tx := "hang") (j := 108) hc_X1_hang ho_X1_hang (by decide +kernel) dX1_hang_5 rfl e (fun v3 _ e => ?_)
  refine v_iload_n (pc' := 8) hc_X1_hang dX1_hang_7 rfl rfl 1 rfl ?_
  refine v_iload_n (pc' := 9) hc_X1_hang dX1_hang_8 rfl rfl 2 rfl ?_
  obtain ⟨r4, h5, e6, e⟩ := bd2_of e
  refine k_I (pc' := 12) (n := 3) hc_X1_hang ho_X1_hang (w_X4_init D l hl a2 v3 x1 x2 h1 e6) (wA_l q932) q933 q86 q934 rfl hy_10 ⟨Nat.le_of_ble_eq_true rfl, Nat.le_of_ble_eq_true rfl⟩ rfl rfl (Nat.le_of_ble_eq_true rfl) dX1_hang_9 rfl (kU ?_) kN
  obtain ⟨c7, e⟩ := gd_of e
  rcases bdX_of e with ⟨r8, h9, e10, e⟩ | ⟨zq11, h9, e10, e⟩
  · refine k_VX (pc' := 15) (x := ⟨"BlockPapers", "change", "(LBlockPapers$Deed;)I"⟩) (ci := 0) (n := 1) hc_X1_hang ho_X1_hang rfl c7 (w_X1_change D l hl x0 a2 h5 e10) (wA_l q952) q954 qs8 q75 q955 hy_114 ⟨Nat.le_of_ble_eq_true rfl, Nat.le_of_ble_eq_true rfl⟩ rfl rfl (Nat.le_of_ble_eq_true rfl) dX1_hang_12 rfl (kS ?_) kN
    obtain ⟨rfl, rfl⟩ := ret_of e
    exact v_iret hc_X1_hang rfl dX1_hang_15 rfl rfl
  · refine k_VX (pc' := 15) (x := ⟨"BlockPapers", "change", "(LBlockPapers$Deed;)I"⟩) (ci := 0) (n := 1) hc_X1_hang ho_X1_hang rfl c7 (w_X1_change D l hl x0 a2 h5 e10) (wA_l q952) q954 qs8 q75 q955 hy_114 ⟨Nat.le_of_ble_eq_true rfl, Nat.le_of_ble_eq_true rfl⟩ rfl rfl (Nat.le_of_ble_eq_true rfl) dX1_hang_12 rfl kM (kX ?_)
    exact v_outA (hp_X1_hang _) rfl rfl e
theorem w_X1_hang (D : va_G) (l : Launch) (hl : l.stackTraces = false) (x0 : Nat) (x1 : Int32) (x2 : Int32) (h : AH) {r : (Int32 ⊕ Nat)} {hF : AH} (e : f_X1_hang x0 x1 x2 h = some (r, hF)) : MetV D l yX1_hang (Cond.code yX1_hang cX1_hang 3 (Option.some .int)) 14 344 [.ref x0, .int x1, .int x2] h hF ((oX oI) r) :=
  met_ofF (by decide +kernel) hl (Nat.le_of_ble_eq_true rfl) rfl (v_X1_hang D l hl [.ref x0, .int x1, .int x2] h x0 x1 x2 h e)
/-! BlockPapers.why(IIZ)I  -/
abbrev G_X1_why (D : va_G) (l : Launch) (as : List Value) (h0 hF : AH) (o : Out) : CT := (D, l, (yX1_why.cls, yX1_why, cX1_why, 6, (Option.some .int), 8, 201, []), as, h0, hF, o)
theorem hc_X1_why {D : va_G} {l : Launch} {as : List Value} {h0 hF : AH} {o : Out} : gC (G_X1_why D l as h0 hF o) = cX1_why := rfl
theorem ho_X1_why {D : va_G} {l : Launch} {as : List Value} {h0 hF : AH} {o : Out} : gO (G_X1_why D l as h0 hF o) = "BlockPapers" := rfl
theorem hp_X1_why {D : va_G} {l : Launch} {as : List Value} {h0 hF : AH} {o : Out} (pc : Nat) : ∀ z ∈ tableOf (gHd (G_X1_why D l as h0 hF o)), covers z pc = false := hpN
def f_X1_why (x0 : Nat) (x1 : Int32) (x2 : Int32) (x3 : Int32) (h : AH) : Option ((Int32 ⊕ Nat) × AH) :=
  bd (gtR h 0 x0 0) fun v1 =>
  gd (isC h 1 v1) <|
  bdX (f_X2_room v1 x1 h) (fun zq22 h4 =>
    outX h4 zq22
  ) fun r3 h4 =>
  bd (gtR h4 0 x0 0) fun v6 =>
  bd (gtR h4 0 x0 0) fun v7 =>
  gd (isC h4 1 v7) <|
  bdX (f_X2_roll v7 x2 h4) (fun zq21 h10 =>
    outX h10 zq21
  ) fun r9 h10 =>
  gd (isC h10 1 v6) <|
  bd2 (f_X2_reason v6 r3 r9 h10) fun r13 h14 =>
  if x3 = 0 then (
    some (.inl r13, h14)
  ) else (
    bd (gtR h14 0 x0 0) fun v16 =>
    gd (isC h14 1 v16) <|
    bd2 (f_X2_detail v16 r3 x2 r13 h14) fun r18 h19 =>
    some (.inl r18, h19)
  )
theorem v_X1_why (D : va_G) (l : Launch) (hl : l.stackTraces = false) (as : List Value) (h0 : AH) {r : (Int32 ⊕ Nat)} {hF : AH} (x0 : Nat) (x1 : Int32) (x2 : Int32) (x3 : Int32) (h : AH) (e : f_X1_why x0 x1 x2 x3 h = some (r, hF)) : V (G_X1_why D l as h0 hF ((oX oI) r)) h 0 [(0, .ref x0), (1, .int x1), (2, .int x2), (3, .int x3)] [] := by
  unfold f_X1_why at e
  refine v_aload_n (pc' := 1) hc_X1_why dX1_why_0 rfl rfl 0 rfl ?_
  refine v_gfR (pc' := 4) hc_X1_why ho_X1_why KX1 0 (Nat.le_of_ble_eq_true rfl) q235 (Or.inl rfl) dX1_why_1 rfl e (fun v1 _ e => ?_)
  refine v_iload_n (pc' := 5) hc_X1_why dX1_why_4 rfl rfl 1 rfl ?_
  obtain ⟨c2, e⟩ := gd_of e
  rcases bdX_of e with ⟨r3, h4, e5, e⟩ | ⟨zq22, h4, e5, e⟩
  · refine k_V (pc' := 8) (ci := 1) (n := 1) hc_X1_why ho_X1_why rfl c2 (w_X2_room D l hl v1 x1 h e5) (wA_l q1645) q1311 (wA_l q1312) q76 q1313 hy_69 ⟨Nat.le_of_ble_eq_true rfl, Nat.le_of_ble_eq_true rfl⟩ rfl rfl (Nat.le_of_ble_eq_true rfl) dX1_why_5 rfl (kS ?_) kN
    refine v_astore (pc' := 10) (lv' := [(4, .ref r3), (0, .ref x0), (1, .int x1), (2, .int x2), (3, .int x3)]) hc_X1_why dX1_why_8 rfl (Nat.le_of_ble_eq_true rfl) rfl ?_
    refine v_aload_n (pc' := 11) hc_X1_why dX1_why_10 rfl rfl 1 rfl ?_
    refine v_gfR (pc' := 14) hc_X1_why ho_X1_why KX1 0 (Nat.le_of_ble_eq_true rfl) q235 (Or.inl rfl) dX1_why_11 rfl e (fun v6 _ e => ?_)
    refine v_aload (pc' := 16) hc_X1_why dX1_why_14 rfl 0 rfl ?_
    refine v_aload_n (pc' := 17) hc_X1_why dX1_why_16 rfl rfl 1 rfl ?_
    refine v_gfR (pc' := 20) hc_X1_why ho_X1_why KX1 0 (Nat.le_of_ble_eq_true rfl) q235 (Or.inl rfl) dX1_why_17 rfl e (fun v7 _ e => ?_)
    refine v_iload_n (pc' := 21) hc_X1_why dX1_why_20 rfl rfl 3 rfl ?_
    obtain ⟨c8, e⟩ := gd_of e
    rcases bdX_of e with ⟨r9, h10, e11, e⟩ | ⟨zq21, h10, e11, e⟩
    · refine k_V (pc' := 24) (ci := 1) (n := 1) hc_X1_why ho_X1_why rfl c8 (w_X2_roll D l hl v7 x2 h4 e11) (wA_l q1620) q1286 (wA_l q1287) q76 q1288 hy_63 ⟨Nat.le_of_ble_eq_true rfl, Nat.le_of_ble_eq_true rfl⟩ rfl rfl (Nat.le_of_ble_eq_true rfl) dX1_why_21 rfl (kS ?_) kN
      obtain ⟨c12, e⟩ := gd_of e
      obtain ⟨r13, h14, e15, e⟩ := bd2_of e
      refine k_V (pc' := 27) (ci := 1) (n := 2) hc_X1_why ho_X1_why rfl c12 (w_X2_reason D l hl v6 r3 r9 h10 e15) (wA_l q1674) q1315 (wA_l q1316) q76 q1317 hy_82 ⟨Nat.le_of_ble_eq_true rfl, Nat.le_of_ble_eq_true rfl⟩ rfl rfl (Nat.le_of_ble_eq_true rfl) dX1_why_24 rfl (kS ?_) kN
      refine v_istore (pc' := 29) (lv' := [(5, .int r13), (4, .ref r3), (0, .ref x0), (1, .int x1), (2, .int x2), (3, .int x3)]) hc_X1_why dX1_why_27 rfl (Nat.le_of_ble_eq_true rfl) rfl ?_
      refine v_iload_n (pc' := 30) hc_X1_why dX1_why_29 rfl rfl 5 rfl ?_
      refine v_if_eq (pt := 48) (pf := 33) hc_X1_why dX1_why_30 rfl rfl e (fun _ e => ?_) (fun _ e => ?_)
      · refine v_iload (pc' := 50) hc_X1_why dX1_why_48 rfl 0 rfl ?_
        obtain ⟨rfl, rfl⟩ := ret_of e
        exact v_iret hc_X1_why rfl dX1_why_50 rfl rfl
      · refine v_aload_n (pc' := 34) hc_X1_why dX1_why_33 rfl rfl 2 rfl ?_
        refine v_gfR (pc' := 37) hc_X1_why ho_X1_why KX1 0 (Nat.le_of_ble_eq_true rfl) q235 (Or.inl rfl) dX1_why_34 rfl e (fun v16 _ e => ?_)
        refine v_aload (pc' := 39) hc_X1_why dX1_why_37 rfl 1 rfl ?_
        refine v_iload_n (pc' := 40) hc_X1_why dX1_why_39 rfl rfl 4 rfl ?_
        refine v_iload (pc' := 42) hc_X1_why dX1_why_40 rfl 0 rfl ?_
        obtain ⟨c17, e⟩ := gd_of e
        obtain ⟨r18, h19, e20, e⟩ := bd2_of e
        refine k_V (pc' := 45) (ci := 1) (n := 3) hc_X1_why ho_X1_why rfl c17 (w_X2_detail D l hl v16 r3 x2 r13 h14 e20) (wA_l q1675) q1385 (wA_l q1386) q76 q1387 hy_83 ⟨Nat.le_of_ble_eq_true rfl, Nat.le_of_ble_eq_true rfl⟩ rfl rfl (Nat.le_of_ble_eq_true rfl) dX1_why_42 rfl (kS ?_) kN
        refine v_goto (pt := 50) hc_X1_why dX1_why_45 rfl ?_
        obtain ⟨rfl, rfl⟩ := ret_of e
        exact v_iret hc_X1_why rfl dX1_why_50 rfl rfl
    · refine k_V (pc' := 24) (ci := 1) (n := 1) hc_X1_why ho_X1_why rfl c8 (w_X2_roll D l hl v7 x2 h4 e11) (wA_l q1620) q1286 (wA_l q1287) q76 q1288 hy_63 ⟨Nat.le_of_ble_eq_true rfl, Nat.le_of_ble_eq_true rfl⟩ rfl rfl (Nat.le_of_ble_eq_true rfl) dX1_why_21 rfl kM (kX ?_)
      exact v_outA (hp_X1_why _) rfl rfl e
  · refine k_V (pc' := 8) (ci := 1) (n := 1) hc_X1_why ho_X1_why rfl c2 (w_X2_room D l hl v1 x1 h e5) (wA_l q1645) q1311 (wA_l q1312) q76 q1313 hy_69 ⟨Nat.le_of_ble_eq_true rfl, Nat.le_of_ble_eq_true rfl⟩ rfl rfl (Nat.le_of_ble_eq_true rfl) dX1_why_5 rfl kM (kX ?_)
    exact v_outA (hp_X1_why _) rfl rfl e
theorem w_X1_why (D : va_G) (l : Launch) (hl : l.stackTraces = false) (x0 : Nat) (x1 : Int32) (x2 : Int32) (x3 : Int32) (h : AH) {r : (Int32 ⊕ Nat)} {hF : AH} (e : f_X1_why x0 x1 x2 x3 h = some (r, hF)) : MetV D l yX1_why (Cond.code yX1_why cX1_why 6 (Option.some .int)) 8 201 [.ref x0, .int x1, .int x2, .int x3] h hF ((oX oI) r) :=
  met_ofF (by decide +kernel) hl (Nat.le_of_ble_eq_true rfl) rfl (v_X1_why D l hl [.ref x0, .int x1, .int x2, .int x3] h x0 x1 x2 x3 h e)
/-! BlockPapers.strip(I)I  -/
abbrev G_X1_strip (D : va_G) (l : Launch) (as : List Value) (h0 hF : AH) (o : Out) : CT := (D, l, (yX1_strip.cls, yX1_strip, cX1_strip, 2, (Option.some .int), 14, 344, []), as, h0, hF, o)
theorem hc_X1_strip {D : va_G} {l : Launch} {as : List Value} {h0 hF : AH} {o : Out} : gC (G_X1_strip D l as h0 hF o) = cX1_strip := rfl
theorem ho_X1_strip {D : va_G} {l : Launch} {as : List Value} {h0 hF : AH} {o : Out} : gO (G_X1_strip D l as h0 hF o) = "BlockPapers" := rfl
theorem hp_X1_strip {D : va_G} {l : Launch} {as : List Value} {h0 hF : AH} {o : Out} (pc : Nat) : ∀ z ∈ tableOf (gHd (G_X1_strip D l as h0 hF o)), covers z pc = false := hpN
def f_X1_strip (x0 : Nat) (x1 : Int32) (h : AH) : Option ((Int32 ⊕ Nat) × AH) :=
  bd2 (nwX h 3 4 fsX4) fun a2 h1 =>
  bd (aE h1 109) fun v3 =>
  bd2 (f_X4_init_3 a2 v3 x1 h1) fun r4 h5 =>
  gd (isC h5 0 x0) <|
  bdX (f_X1_change x0 a2 h5) (fun zq11 h9 =>
    outX h9 zq11
  ) fun r8 h9 =>
  some (.inl r8, h9)
theorem v_X1_strip (D : va_G) (l : Launch) (hl : l.stackTraces = false) (as : List Value) (h0 : AH) {r : (Int32 ⊕ Nat)} {hF : AH} (x0 : Nat) (x1 : Int32) (h : AH) (e : f_X1_strip x0 x1 h = some (r, hF)) : V (G_X1_strip D l as h0 hF ((oX oI) r)) h 0 [(0, .ref x0), (1, .int x1)] [] := by
  unfold f_X1_strip at e
  refine v_aload_n (pc' := 1) hc_X1_strip dX1_strip_0 rfl rfl 0 rfl ?_
  refine v_newX (pc' := 4) hc_X1_strip ho_X1_strip KX4 q929 q930 q86 rfl dfX4 dX1_strip_1 rfl e (fun a2 h1 _ e => ?_)
  refine v_dup (pc' := 5) hc_X1_strip dX1_strip_4 rfl rfl ?_
  refine v_ldcS (pc' := 7) (tx := "strip") (j := 109) hc_X1_strip ho_X1_strip (by decide +kernel) dX1_strip_5 rfl e (fun v3 _ e => ?_)
  refine v_iload_n (pc' := 8) hc_X1_strip dX1_strip_7 rfl rfl 1 rfl ?_
  obtain ⟨r4, h5, e6, e⟩ := bd2_of e
  refine k_I (pc' := 11) (n := 2) hc_X1_strip ho_X1_strip (w_X4_init_3 D l hl a2 v3 x1 h1 e6) (wA_l q1577) q1578 q86 q1579 rfl hy_133 ⟨Nat.le_of_ble_eq_true rfl, Nat.le_of_ble_eq_true rfl⟩ rfl rfl (Nat.le_of_ble_eq_true rfl) dX1_strip_8 rfl (kU ?_) kN
  obtain ⟨c7, e⟩ := gd_of e
  rcases bdX_of e with ⟨r8, h9, e10, e⟩ | ⟨zq11, h9, e10, e⟩
  · refine k_VX (pc' := 14) (x := ⟨"BlockPapers", "change", "(LBlockPapers$Deed;)I"⟩) (ci := 0) (n := 1) hc_X1_strip ho_X1_strip rfl c7 (w_X1_change D l hl x0 a2 h5 e10) (wA_l q952) q954 qs8 q75 q955 hy_114 ⟨Nat.le_of_ble_eq_true rfl, Nat.le_of_ble_eq_true rfl⟩ rfl rfl (Nat.le_of_ble_eq_true rfl) dX1_strip_11 rfl (kS ?_) kN
    obtain ⟨rfl, rfl⟩ := ret_of e
    exact v_iret hc_X1_strip rfl dX1_strip_14 rfl rfl
  · refine k_VX (pc' := 14) (x := ⟨"BlockPapers", "change", "(LBlockPapers$Deed;)I"⟩) (ci := 0) (n := 1) hc_X1_strip ho_X1_strip rfl c7 (w_X1_change D l hl x0 a2 h5 e10) (wA_l q952) q954 qs8 q75 q955 hy_114 ⟨Nat.le_of_ble_eq_true rfl, Nat.le_of_ble_eq_true rfl⟩ rfl rfl (Nat.le_of_ble_eq_true rfl) dX1_strip_11 rfl kM (kX ?_)
    exact v_outA (hp_X1_strip _) rfl rfl e
theorem w_X1_strip (D : va_G) (l : Launch) (hl : l.stackTraces = false) (x0 : Nat) (x1 : Int32) (h : AH) {r : (Int32 ⊕ Nat)} {hF : AH} (e : f_X1_strip x0 x1 h = some (r, hF)) : MetV D l yX1_strip (Cond.code yX1_strip cX1_strip 2 (Option.some .int)) 14 344 [.ref x0, .int x1] h hF ((oX oI) r) :=
  met_ofF (by decide +kernel) hl (Nat.le_of_ble_eq_true rfl) rfl (v_X1_strip D l hl [.ref x0, .int x1] h x0 x1 h e)
/-! BlockPapers.isMatched(I)Z  -/
abbrev G_X1_isMatched (D : va_G) (l : Launch) (as : List Value) (h0 hF : AH) (o : Out) : CT := (D, l, (yX1_isMatched.cls, yX1_isMatched, cX1_isMatched, 5, (Option.some .boolean), 8, 155, []), as, h0, hF, o)
theorem hc_X1_isMatched {D : va_G} {l : Launch} {as : List Value} {h0 hF : AH} {o : Out} : gC (G_X1_isMatched D l as h0 hF o) = cX1_isMatched := rfl
theorem ho_X1_isMatched {D : va_G} {l : Launch} {as : List Value} {h0 hF : AH} {o : Out} : gO (G_X1_isMatched D l as h0 hF o) = "BlockPapers" := rfl
theorem hp_X1_isMatched {D : va_G} {l : Launch} {as : List Value} {h0 hF : AH} {o : Out} (pc : Nat) : ∀ z ∈ tableOf (gHd (G_X1_isMatched D l as h0 hF o)), covers z pc = false := hpN
def fb_X1_isMatched_l14 (rec : Nat → Nat → Int32 → Int32 → AH → Option ((Int32 ⊕ Nat) × AH)) (x0 : Nat) (x2 : Nat) (x3 : Int32) (x4 : Int32) (h : AH) : Option ((Int32 ⊕ Nat) × AH) :=
  bd (gtR h 4 x2 2) fun v1 =>
  gd (isC h 16 v1) <|
  bd2 (f_J2_size v1 h) fun r3 h4 =>
  if r3 ≤ x4 then (
    gd (nrw .boolean x3) <|
    some (.inl x3, h4)
  ) else (
    bd (gtR h4 4 x2 2) fun v7 =>
    gd (isC h4 16 v7) <|
    bd2 (f_J2_get v7 x4 h4) fun r9 h10 =>
    gd (isC h10 10 r9) <|
    bd (gtI h10 10 r9 1) fun v13 =>
    bd (gtR h10 0 x0 0) fun v14 =>
    gd (isC h10 1 v14) <|
    bd2 (f_X2_begin v14 x2 x4 h10) fun r16 h17 =>
    if v13 = r16 then (
      rec x0 x2 (x3 &&& (1 : Int32)) (x4 + 1) h17
    ) else (
      rec x0 x2 (x3 &&& (0 : Int32)) (x4 + 1) h17
    )
  )
def f_X1_isMatched_l14 : Nat → Nat → Nat → Int32 → Int32 → AH → Option ((Int32 ⊕ Nat) × AH)
  | 0 => fun _ _ _ _ _ => none
  | n + 1 => fb_X1_isMatched_l14 (f_X1_isMatched_l14 n) 
theorem w_X1_isMatched_l14 (D : va_G) (l : Launch) (hl : l.stackTraces = false) (as : List Value) (h0 : AH) {r : (Int32 ⊕ Nat)} {hF : AH} : ∀ (n : Nat) (x0 : Nat) (x2 : Nat) (x3 : Int32) (x4 : Int32) (h : AH), f_X1_isMatched_l14 n x0 x2 x3 x4 h = some (r, hF) → V (G_X1_isMatched D l as h0 hF ((oX oI) r)) h 14 [(0, .ref x0), (2, .ref x2), (3, .int x3), (4, .int x4)] [] := by
  intro n; induction n with
  | zero => intro x0 x2 x3 x4 h e; exact absurd (show (none : Option ((Int32 ⊕ Nat) × AH)) = some _ from e) (fun z => nomatch z)
  | succ n IH =>
    intro x0 x2 x3 x4 h e
    have e : fb_X1_isMatched_l14 (f_X1_isMatched_l14 n) x0 x2 x3 x4 h = some (r, hF) := e
    unfold fb_X1_isMatched_l14 at e
    refine v_iload (pc' := 16) hc_X1_isMatched dX1_isMatched_14 rfl 3 rfl ?_
    refine v_aload_n (pc' := 17) hc_X1_isMatched dX1_isMatched_16 rfl rfl 1 rfl ?_
    refine v_gnR (pc' := 20) hc_X1_isMatched ho_X1_isMatched KX5 2 (Nat.le_of_ble_eq_true rfl) q883 rfl dX1_isMatched_17 rfl e (fun v1 _ e => ?_)
    obtain ⟨c2, e⟩ := gd_of e
    obtain ⟨r3, h4, e5, e⟩ := bd2_of e
    refine k_F (pc' := 25) (x := ⟨"java/util/List", "size", "()I"⟩) (y := ⟨"java/util/ArrayList", "size", "()I"⟩) (ci := 16) (n := 0) hc_X1_isMatched ho_X1_isMatched rfl c2 (w_J2_size D l hl v1 h e5) (wA_l q344) (by decide +kernel) q348 q350 q79 q352 hy_19 ⟨Nat.le_of_ble_eq_true rfl, Nat.le_of_ble_eq_true rfl⟩ rfl rfl (Nat.le_of_ble_eq_true rfl) dX1_isMatched_20 rfl (kS ?_) kN
    refine v_icmp_ge (pt := 72) (pf := 28) hc_X1_isMatched dX1_isMatched_25 rfl rfl e (fun _ e => ?_) (fun _ e => ?_)
    · refine v_iload_n (pc' := 73) hc_X1_isMatched dX1_isMatched_72 rfl rfl 2 rfl ?_
      obtain ⟨c6, e⟩ := gd_of e
      obtain ⟨rfl, rfl⟩ := ret_of e
      exact v_zret hc_X1_isMatched rfl (nrw_of c6) dX1_isMatched_73 rfl rfl
    · refine v_iload_n (pc' := 29) hc_X1_isMatched dX1_isMatched_28 rfl rfl 2 rfl ?_
      refine v_aload_n (pc' := 30) hc_X1_isMatched dX1_isMatched_29 rfl rfl 1 rfl ?_
      refine v_gnR (pc' := 33) hc_X1_isMatched ho_X1_isMatched KX5 2 (Nat.le_of_ble_eq_true rfl) q883 rfl dX1_isMatched_30 rfl e (fun v7 _ e => ?_)
      refine v_iload (pc' := 35) hc_X1_isMatched dX1_isMatched_33 rfl 3 rfl ?_
      obtain ⟨c8, e⟩ := gd_of e
      obtain ⟨r9, h10, e11, e⟩ := bd2_of e
      refine k_F (pc' := 40) (x := ⟨"java/util/List", "get", "(I)Ljava/lang/Object;"⟩) (y := ⟨"java/util/ArrayList", "get", "(I)Ljava/lang/Object;"⟩) (ci := 16) (n := 1) hc_X1_isMatched ho_X1_isMatched rfl c8 (w_J2_get D l hl v7 x4 h4 e11) (wA_l q1568) (by decide +kernel) q401 q403 q79 q405 hy_23 ⟨Nat.le_of_ble_eq_true rfl, Nat.le_of_ble_eq_true rfl⟩ rfl rfl (Nat.le_of_ble_eq_true rfl) dX1_isMatched_35 rfl (kS ?_) kN
      obtain ⟨c12, e⟩ := gd_of e
      refine v_cast (pc' := 43) (ci := 10) hc_X1_isMatched ho_X1_isMatched rfl q1658 (Or.inl rfl) dX1_isMatched_40 rfl c12 ?_
      refine v_gnI (pc' := 46) hc_X1_isMatched ho_X1_isMatched KX12 1 (Nat.le_of_ble_eq_true rfl) q1402 rfl dX1_isMatched_43 rfl e (fun v13 _ e => ?_)
      refine v_aload_n (pc' := 47) hc_X1_isMatched dX1_isMatched_46 rfl rfl 0 rfl ?_
      refine v_gfR (pc' := 50) hc_X1_isMatched ho_X1_isMatched KX1 0 (Nat.le_of_ble_eq_true rfl) q235 (Or.inl rfl) dX1_isMatched_47 rfl e (fun v14 _ e => ?_)
      refine v_aload_n (pc' := 51) hc_X1_isMatched dX1_isMatched_50 rfl rfl 1 rfl ?_
      refine v_iload (pc' := 53) hc_X1_isMatched dX1_isMatched_51 rfl 3 rfl ?_
      obtain ⟨c15, e⟩ := gd_of e
      obtain ⟨r16, h17, e18, e⟩ := bd2_of e
      refine k_V (pc' := 56) (ci := 1) (n := 2) hc_X1_isMatched ho_X1_isMatched rfl c15 (w_X2_begin D l hl v14 x2 x4 h10 e18) (wA_l q1648) q1347 (wA_l q1348) q76 q1349 hy_78 ⟨Nat.le_of_ble_eq_true rfl, Nat.le_of_ble_eq_true rfl⟩ rfl rfl (Nat.le_of_ble_eq_true rfl) dX1_isMatched_53 rfl (kS ?_) kN
      refine v_icmp_ne (pt := 63) (pf := 59) hc_X1_isMatched dX1_isMatched_56 rfl rfl e (fun _ e => ?_) (fun _ e => ?_)
      · refine v_iconst (pc' := 60) (v := 1) hc_X1_isMatched dX1_isMatched_59 rfl rfl ?_
        refine v_goto (pt := 64) hc_X1_isMatched dX1_isMatched_60 rfl ?_
        refine v_iand (pc' := 65) hc_X1_isMatched dX1_isMatched_64 rfl ?_
        refine v_istore_n (pc' := 66) (lv' := [(3, .int (x3 &&& (1 : Int32))), (0, .ref x0), (2, .ref x2), (4, .int x4)]) hc_X1_isMatched dX1_isMatched_65 rfl rfl (Nat.le_of_ble_eq_true rfl) rfl ?_
        refine v_iinc (pc' := 69) (lv' := [(4, .int (x4 + 1)), (3, .int (x3 &&& (1 : Int32))), (0, .ref x0), (2, .ref x2)]) (v := x4 + 1) hc_X1_isMatched dX1_isMatched_66 rfl 3 rfl rfl (Nat.le_of_ble_eq_true rfl) rfl ?_
        refine v_goto (pt := 14) hc_X1_isMatched dX1_isMatched_69 rfl ?_
        refine v_pick [2, 3, 1, 0] rfl ?_
        exact IH x0 x2 (x3 &&& (1 : Int32)) (x4 + 1) h17 e
      · refine v_iconst (pc' := 64) (v := 0) hc_X1_isMatched dX1_isMatched_63 rfl rfl ?_
        refine v_iand (pc' := 65) hc_X1_isMatched dX1_isMatched_64 rfl ?_
        refine v_istore_n (pc' := 66) (lv' := [(3, .int (x3 &&& (0 : Int32))), (0, .ref x0), (2, .ref x2), (4, .int x4)]) hc_X1_isMatched dX1_isMatched_65 rfl rfl (Nat.le_of_ble_eq_true rfl) rfl ?_
        refine v_iinc (pc' := 69) (lv' := [(4, .int (x4 + 1)), (3, .int (x3 &&& (0 : Int32))), (0, .ref x0), (2, .ref x2)]) (v := x4 + 1) hc_X1_isMatched dX1_isMatched_66 rfl 3 rfl rfl (Nat.le_of_ble_eq_true rfl) rfl ?_
        refine v_goto (pt := 14) hc_X1_isMatched dX1_isMatched_69 rfl ?_
        refine v_pick [2, 3, 1, 0] rfl ?_
        exact IH x0 x2 (x3 &&& (0 : Int32)) (x4 + 1) h17 e
def f_X1_isMatched (x0 : Nat) (x1 : Int32) (h : AH) : Option ((Int32 ⊕ Nat) × AH) :=
  bd (gtR h 0 x0 0) fun v1 =>
  gd (isC h 1 v1) <|
  bdX (f_X2_room v1 x1 h) (fun zq6 h4 =>
    outX h4 zq6
  ) fun r3 h4 =>
  f_X1_isMatched_l14 NN x0 r3 (1 : Int32) (1 : Int32) h4
theorem v_X1_isMatched (D : va_G) (l : Launch) (hl : l.stackTraces = false) (as : List Value) (h0 : AH) {r : (Int32 ⊕ Nat)} {hF : AH} (x0 : Nat) (x1 : Int32) (h : AH) (e : f_X1_isMatched x0 x1 h = some (r, hF)) : V (G_X1_isMatched D l as h0 hF ((oX oI) r)) h 0 [(0, .ref x0), (1, .int x1)] [] := by
  unfold f_X1_isMatched at e
  refine v_aload_n (pc' := 1) hc_X1_isMatched dX1_isMatched_0 rfl rfl 0 rfl ?_
  refine v_gfR (pc' := 4) hc_X1_isMatched ho_X1_isMatched KX1 0 (Nat.le_of_ble_eq_true rfl) q235 (Or.inl rfl) dX1_isMatched_1 rfl e (fun v1 _ e => ?_)
  refine v_iload_n (pc' := 5) hc_X1_isMatched dX1_isMatched_4 rfl rfl 1 rfl ?_
  obtain ⟨c2, e⟩ := gd_of e
  rcases bdX_of e with ⟨r3, h4, e5, e⟩ | ⟨zq6, h4, e5, e⟩
  · refine k_V (pc' := 8) (ci := 1) (n := 1) hc_X1_isMatched ho_X1_isMatched rfl c2 (w_X2_room D l hl v1 x1 h e5) (wA_l q1645) q1311 (wA_l q1312) q76 q1313 hy_69 ⟨Nat.le_of_ble_eq_true rfl, Nat.le_of_ble_eq_true rfl⟩ rfl rfl (Nat.le_of_ble_eq_true rfl) dX1_isMatched_5 rfl (kS ?_) kN
    refine v_astore_n (pc' := 9) (lv' := [(2, .ref r3), (0, .ref x0), (1, .int x1)]) hc_X1_isMatched dX1_isMatched_8 rfl rfl (Nat.le_of_ble_eq_true rfl) rfl ?_
    refine v_iconst (pc' := 10) (v := 1) hc_X1_isMatched dX1_isMatched_9 rfl rfl ?_
    refine v_istore_n (pc' := 11) (lv' := [(3, .int (1 : Int32)), (2, .ref r3), (0, .ref x0), (1, .int x1)]) hc_X1_isMatched dX1_isMatched_10 rfl rfl (Nat.le_of_ble_eq_true rfl) rfl ?_
    refine v_iconst (pc' := 12) (v := 1) hc_X1_isMatched dX1_isMatched_11 rfl rfl ?_
    refine v_istore (pc' := 14) (lv' := [(4, .int (1 : Int32)), (3, .int (1 : Int32)), (2, .ref r3), (0, .ref x0), (1, .int x1)]) hc_X1_isMatched dX1_isMatched_12 rfl (Nat.le_of_ble_eq_true rfl) rfl ?_
    refine v_pick [3, 2, 1, 0] rfl ?_
    exact w_X1_isMatched_l14 D l hl as h0 NN x0 r3 (1 : Int32) (1 : Int32) h4 e
  · refine k_V (pc' := 8) (ci := 1) (n := 1) hc_X1_isMatched ho_X1_isMatched rfl c2 (w_X2_room D l hl v1 x1 h e5) (wA_l q1645) q1311 (wA_l q1312) q76 q1313 hy_69 ⟨Nat.le_of_ble_eq_true rfl, Nat.le_of_ble_eq_true rfl⟩ rfl rfl (Nat.le_of_ble_eq_true rfl) dX1_isMatched_5 rfl kM (kX ?_)
    exact v_outA (hp_X1_isMatched _) rfl rfl e
theorem w_X1_isMatched (D : va_G) (l : Launch) (hl : l.stackTraces = false) (x0 : Nat) (x1 : Int32) (h : AH) {r : (Int32 ⊕ Nat)} {hF : AH} (e : f_X1_isMatched x0 x1 h = some (r, hF)) : MetV D l yX1_isMatched (Cond.code yX1_isMatched cX1_isMatched 5 (Option.some .boolean)) 8 155 [.ref x0, .int x1] h hF ((oX oI) r) :=
  met_ofF (by decide +kernel) hl (Nat.le_of_ble_eq_true rfl) rfl (v_X1_isMatched D l hl [.ref x0, .int x1] h x0 x1 h e)
/-! BlockPapers.bestRoll(I)I  -/
abbrev G_X1_bestRoll (D : va_G) (l : Launch) (as : List Value) (h0 hF : AH) (o : Out) : CT := (D, l, (yX1_bestRoll.cls, yX1_bestRoll, cX1_bestRoll, 3, (Option.some .int), 9, 224, []), as, h0, hF, o)
theorem hc_X1_bestRoll {D : va_G} {l : Launch} {as : List Value} {h0 hF : AH} {o : Out} : gC (G_X1_bestRoll D l as h0 hF o) = cX1_bestRoll := rfl
theorem ho_X1_bestRoll {D : va_G} {l : Launch} {as : List Value} {h0 hF : AH} {o : Out} : gO (G_X1_bestRoll D l as h0 hF o) = "BlockPapers" := rfl
theorem hp_X1_bestRoll {D : va_G} {l : Launch} {as : List Value} {h0 hF : AH} {o : Out} (pc : Nat) : ∀ z ∈ tableOf (gHd (G_X1_bestRoll D l as h0 hF o)), covers z pc = false := hpN
def f_X1_bestRoll (x0 : Nat) (x1 : Int32) (h : AH) : Option ((Int32 ⊕ Nat) × AH) :=
  bd (gtR h 0 x0 0) fun v1 =>
  bd (gtR h 0 x0 0) fun v2 =>
  gd (isC h 1 v2) <|
  bdX (f_X2_room v2 x1 h) (fun zq19 h5 =>
    outX h5 zq19
  ) fun r4 h5 =>
  gd (isC h5 1 v1) <|
  bd2 (f_X2_best v1 r4 h5) fun r8 h9 =>
  if r8 = (-1 : Int32) then (
    bdX (f_X1_requireElement (0 : Int32) h9) (fun zq14 h12 =>
      outX h12 zq14
    ) fun r11 h12 =>
    some (.inl r8, h12)
  ) else (
    bdX (f_X1_requireElement (1 : Int32) h9) (fun zq18 h16 =>
      outX h16 zq18
    ) fun r15 h16 =>
    some (.inl r8, h16)
  )
theorem v_X1_bestRoll (D : va_G) (l : Launch) (hl : l.stackTraces = false) (as : List Value) (h0 : AH) {r : (Int32 ⊕ Nat)} {hF : AH} (x0 : Nat) (x1 : Int32) (h : AH) (e : f_X1_bestRoll x0 x1 h = some (r, hF)) : V (G_X1_bestRoll D l as h0 hF ((oX oI) r)) h 0 [(0, .ref x0), (1, .int x1)] [] := by
  unfold f_X1_bestRoll at e
  refine v_aload_n (pc' := 1) hc_X1_bestRoll dX1_bestRoll_0 rfl rfl 0 rfl ?_
  refine v_gfR (pc' := 4) hc_X1_bestRoll ho_X1_bestRoll KX1 0 (Nat.le_of_ble_eq_true rfl) q235 (Or.inl rfl) dX1_bestRoll_1 rfl e (fun v1 _ e => ?_)
  refine v_aload_n (pc' := 5) hc_X1_bestRoll dX1_bestRoll_4 rfl rfl 0 rfl ?_
  refine v_gfR (pc' := 8) hc_X1_bestRoll ho_X1_bestRoll KX1 0 (Nat.le_of_ble_eq_true rfl) q235 (Or.inl rfl) dX1_bestRoll_5 rfl e (fun v2 _ e => ?_)
  refine v_iload_n (pc' := 9) hc_X1_bestRoll dX1_bestRoll_8 rfl rfl 1 rfl ?_
  obtain ⟨c3, e⟩ := gd_of e
  rcases bdX_of e with ⟨r4, h5, e6, e⟩ | ⟨zq19, h5, e6, e⟩
  · refine k_V (pc' := 12) (ci := 1) (n := 1) hc_X1_bestRoll ho_X1_bestRoll rfl c3 (w_X2_room D l hl v2 x1 h e6) (wA_l q1645) q1311 (wA_l q1312) q76 q1313 hy_69 ⟨Nat.le_of_ble_eq_true rfl, Nat.le_of_ble_eq_true rfl⟩ rfl rfl (Nat.le_of_ble_eq_true rfl) dX1_bestRoll_9 rfl (kS ?_) kN
    obtain ⟨c7, e⟩ := gd_of e
    obtain ⟨r8, h9, e10, e⟩ := bd2_of e
    refine k_V (pc' := 15) (ci := 1) (n := 1) hc_X1_bestRoll ho_X1_bestRoll rfl c7 (w_X2_best D l hl v1 r4 h5 e10) (wA_l q1698) q1443 (wA_l q1444) q76 q1445 hy_93 ⟨Nat.le_of_ble_eq_true rfl, Nat.le_of_ble_eq_true rfl⟩ rfl rfl (Nat.le_of_ble_eq_true rfl) dX1_bestRoll_12 rfl (kS ?_) kN
    refine v_istore_n (pc' := 16) (lv' := [(2, .int r8), (0, .ref x0), (1, .int x1)]) hc_X1_bestRoll dX1_bestRoll_15 rfl rfl (Nat.le_of_ble_eq_true rfl) rfl ?_
    refine v_iload_n (pc' := 17) hc_X1_bestRoll dX1_bestRoll_16 rfl rfl 0 rfl ?_
    refine v_iconst (pc' := 18) (v := (-1)) hc_X1_bestRoll dX1_bestRoll_17 rfl rfl ?_
    refine v_icmp_eq (pt := 25) (pf := 21) hc_X1_bestRoll dX1_bestRoll_18 rfl rfl e (fun _ e => ?_) (fun _ e => ?_)
    · refine v_iconst (pc' := 26) (v := 0) hc_X1_bestRoll dX1_bestRoll_25 rfl rfl ?_
      rcases bdX_of e with ⟨r11, h12, e13, e⟩ | ⟨zq14, h12, e13, e⟩
      · refine k_S (pc' := 29) (n := 1) hc_X1_bestRoll ho_X1_bestRoll (w_X1_requireElement D l hl (0 : Int32) h9 e13) (wA_l q1657) q438 q75 q439 hy_159 ⟨Nat.le_of_ble_eq_true rfl, Nat.le_of_ble_eq_true rfl⟩ rfl rfl (Nat.le_of_ble_eq_true rfl) dX1_bestRoll_26 rfl (kU ?_) kN
        refine v_iload_n (pc' := 30) hc_X1_bestRoll dX1_bestRoll_29 rfl rfl 0 rfl ?_
        obtain ⟨rfl, rfl⟩ := ret_of e
        exact v_iret hc_X1_bestRoll rfl dX1_bestRoll_30 rfl rfl
      · refine k_S (pc' := 29) (n := 1) hc_X1_bestRoll ho_X1_bestRoll (w_X1_requireElement D l hl (0 : Int32) h9 e13) (wA_l q1657) q438 q75 q439 hy_159 ⟨Nat.le_of_ble_eq_true rfl, Nat.le_of_ble_eq_true rfl⟩ rfl rfl (Nat.le_of_ble_eq_true rfl) dX1_bestRoll_26 rfl kM (kX ?_)
        exact v_outA (hp_X1_bestRoll _) rfl rfl e
    · refine v_iconst (pc' := 22) (v := 1) hc_X1_bestRoll dX1_bestRoll_21 rfl rfl ?_
      refine v_goto (pt := 26) hc_X1_bestRoll dX1_bestRoll_22 rfl ?_
      rcases bdX_of e with ⟨r15, h16, e17, e⟩ | ⟨zq18, h16, e17, e⟩
      · refine k_S (pc' := 29) (n := 1) hc_X1_bestRoll ho_X1_bestRoll (w_X1_requireElement D l hl (1 : Int32) h9 e17) (wA_l q1657) q438 q75 q439 hy_159 ⟨Nat.le_of_ble_eq_true rfl, Nat.le_of_ble_eq_true rfl⟩ rfl rfl (Nat.le_of_ble_eq_true rfl) dX1_bestRoll_26 rfl (kU ?_) kN
        refine v_iload_n (pc' := 30) hc_X1_bestRoll dX1_bestRoll_29 rfl rfl 0 rfl ?_
        obtain ⟨rfl, rfl⟩ := ret_of e
        exact v_iret hc_X1_bestRoll rfl dX1_bestRoll_30 rfl rfl
      · refine k_S (pc' := 29) (n := 1) hc_X1_bestRoll ho_X1_bestRoll (w_X1_requireElement D l hl (1 : Int32) h9 e17) (wA_l q1657) q438 q75 q439 hy_159 ⟨Nat.le_of_ble_eq_true rfl, Nat.le_of_ble_eq_true rfl⟩ rfl rfl (Nat.le_of_ble_eq_true rfl) dX1_bestRoll_26 rfl kM (kX ?_)
        exact v_outA (hp_X1_bestRoll _) rfl rfl e
  · refine k_V (pc' := 12) (ci := 1) (n := 1) hc_X1_bestRoll ho_X1_bestRoll rfl c3 (w_X2_room D l hl v2 x1 h e6) (wA_l q1645) q1311 (wA_l q1312) q76 q1313 hy_69 ⟨Nat.le_of_ble_eq_true rfl, Nat.le_of_ble_eq_true rfl⟩ rfl rfl (Nat.le_of_ble_eq_true rfl) dX1_bestRoll_9 rfl kM (kX ?_)
    exact v_outA (hp_X1_bestRoll _) rfl rfl e
theorem w_X1_bestRoll (D : va_G) (l : Launch) (hl : l.stackTraces = false) (x0 : Nat) (x1 : Int32) (h : AH) {r : (Int32 ⊕ Nat)} {hF : AH} (e : f_X1_bestRoll x0 x1 h = some (r, hF)) : MetV D l yX1_bestRoll (Cond.code yX1_bestRoll cX1_bestRoll 3 (Option.some .int)) 9 224 [.ref x0, .int x1] h hF ((oX oI) r) :=
  met_ofF (by decide +kernel) hl (Nat.le_of_ble_eq_true rfl) rfl (v_X1_bestRoll D l hl [.ref x0, .int x1] h x0 x1 h e)
/-! BlockPapers.finish(I)I  -/
abbrev G_X1_finish (D : va_G) (l : Launch) (as : List Value) (h0 hF : AH) (o : Out) : CT := (D, l, (yX1_finish.cls, yX1_finish, cX1_finish, 2, (Option.some .int), 14, 344, []), as, h0, hF, o)
theorem hc_X1_finish {D : va_G} {l : Launch} {as : List Value} {h0 hF : AH} {o : Out} : gC (G_X1_finish D l as h0 hF o) = cX1_finish := rfl
theorem ho_X1_finish {D : va_G} {l : Launch} {as : List Value} {h0 hF : AH} {o : Out} : gO (G_X1_finish D l as h0 hF o) = "BlockPapers" := rfl
theorem hp_X1_finish {D : va_G} {l : Launch} {as : List Value} {h0 hF : AH} {o : Out} (pc : Nat) : ∀ z ∈ tableOf (gHd (G_X1_finish D l as h0 hF o)), covers z pc = false := hpN
def f_X1_finish (x0 : Nat) (x1 : Int32) (h : AH) : Option ((Int32 ⊕ Nat) × AH) :=
  bd2 (nwX h 3 4 fsX4) fun a2 h1 =>
  bd (aE h1 110) fun v3 =>
  bd2 (f_X4_init_3 a2 v3 x1 h1) fun r4 h5 =>
  gd (isC h5 0 x0) <|
  bdX (f_X1_change x0 a2 h5) (fun zq11 h9 =>
    outX h9 zq11
  ) fun r8 h9 =>
  some (.inl r8, h9)
theorem v_X1_finish (D : va_G) (l : Launch) (hl : l.stackTraces = false) (as : List Value) (h0 : AH) {r : (Int32 ⊕ Nat)} {hF : AH} (x0 : Nat) (x1 : Int32) (h : AH) (e : f_X1_finish x0 x1 h = some (r, hF)) : V (G_X1_finish D l as h0 hF ((oX oI) r)) h 0 [(0, .ref x0), (1, .int x1)] [] := by
  unfold f_X1_finish at e
  refine v_aload_n (pc' := 1) hc_X1_finish dX1_finish_0 rfl rfl 0 rfl ?_
  refine v_newX (pc' := 4) hc_X1_finish ho_X1_finish KX4 q929 q930 q86 rfl dfX4 dX1_finish_1 rfl e (fun a2 h1 _ e => ?_)
  refine v_dup (pc' := 5) hc_X1_finish dX1_finish_4 rfl rfl ?_
  refine v_ldcwS (pc' := 8) (tx := "finish") (j := 110) hc_X1_finish ho_X1_finish (by decide +kernel) dX1_finish_5 rfl e (fun v3 _ e => ?_)
  refine v_iload_n (pc' := 9) hc_X1_finish dX1_finish_8 rfl rfl 1 rfl ?_
  obtain ⟨r4, h5, e6, e⟩ := bd2_of e
  refine k_I (pc' := 12) (n := 2) hc_X1_finish ho_X1_finish (w_X4_init_3 D l hl a2 v3 x1 h1 e6) (wA_l q1577) q1578 q86 q1579 rfl hy_133 ⟨Nat.le_of_ble_eq_true rfl, Nat.le_of_ble_eq_true rfl⟩ rfl rfl (Nat.le_of_ble_eq_true rfl) dX1_finish_9 rfl (kU ?_) kN
  obtain ⟨c7, e⟩ := gd_of e
  rcases bdX_of e with ⟨r8, h9, e10, e⟩ | ⟨zq11, h9, e10, e⟩
  · refine k_VX (pc' := 15) (x := ⟨"BlockPapers", "change", "(LBlockPapers$Deed;)I"⟩) (ci := 0) (n := 1) hc_X1_finish ho_X1_finish rfl c7 (w_X1_change D l hl x0 a2 h5 e10) (wA_l q952) q954 qs8 q75 q955 hy_114 ⟨Nat.le_of_ble_eq_true rfl, Nat.le_of_ble_eq_true rfl⟩ rfl rfl (Nat.le_of_ble_eq_true rfl) dX1_finish_12 rfl (kS ?_) kN
    obtain ⟨rfl, rfl⟩ := ret_of e
    exact v_iret hc_X1_finish rfl dX1_finish_15 rfl rfl
  · refine k_VX (pc' := 15) (x := ⟨"BlockPapers", "change", "(LBlockPapers$Deed;)I"⟩) (ci := 0) (n := 1) hc_X1_finish ho_X1_finish rfl c7 (w_X1_change D l hl x0 a2 h5 e10) (wA_l q952) q954 qs8 q75 q955 hy_114 ⟨Nat.le_of_ble_eq_true rfl, Nat.le_of_ble_eq_true rfl⟩ rfl rfl (Nat.le_of_ble_eq_true rfl) dX1_finish_12 rfl kM (kX ?_)
    exact v_outA (hp_X1_finish _) rfl rfl e
theorem w_X1_finish (D : va_G) (l : Launch) (hl : l.stackTraces = false) (x0 : Nat) (x1 : Int32) (h : AH) {r : (Int32 ⊕ Nat)} {hF : AH} (e : f_X1_finish x0 x1 h = some (r, hF)) : MetV D l yX1_finish (Cond.code yX1_finish cX1_finish 2 (Option.some .int)) 14 344 [.ref x0, .int x1] h hF ((oX oI) r) :=
  met_ofF (by decide +kernel) hl (Nat.le_of_ble_eq_true rfl) rfl (v_X1_finish D l hl [.ref x0, .int x1] h x0 x1 h e)
/-! BlockPapers$Workshop.drops(LBlockPapers$Room;LBlockPapers$Roll;)I  -/
abbrev G_X2_drops (D : va_G) (l : Launch) (as : List Value) (h0 hF : AH) (o : Out) : CT := (D, l, (yX2_drops.cls, yX2_drops, cX2_drops, 9, (Option.some .int), 8, 200, []), as, h0, hF, o)
theorem hc_X2_drops {D : va_G} {l : Launch} {as : List Value} {h0 hF : AH} {o : Out} : gC (G_X2_drops D l as h0 hF o) = cX2_drops := rfl
theorem ho_X2_drops {D : va_G} {l : Launch} {as : List Value} {h0 hF : AH} {o : Out} : gO (G_X2_drops D l as h0 hF o) = "BlockPapers$Workshop" := rfl
theorem hp_X2_drops {D : va_G} {l : Launch} {as : List Value} {h0 hF : AH} {o : Out} (pc : Nat) : ∀ z ∈ tableOf (gHd (G_X2_drops D l as h0 hF o)), covers z pc = false := hpN
def fb_X2_drops_l82 (rec : Nat → Nat → Nat → Nat → Int32 → Int32 → Int32 → Int32 → AH → Option (Int32 × AH)) (x0 : Nat) (x1 : Nat) (x2 : Nat) (x3 : Nat) (x4 : Int32) (x5 : Int32) (x6 : Int32) (x7 : Int32) (h : AH) : Option (Int32 × AH) :=
  bd (gtI h 4 x1 1) fun v1 =>
  if v1 ≤ (x4 + x7) then (
    some (x7, h)
  ) else (
    gd (isC h 7 x3) <|
    bd2 (f_X8_begin x3 x5 (x4 + x7) h) fun r3 h4 =>
    gd (isC h4 1 x0) <|
    bd2 (f_X2_waste x0 x2 x6 r3 h4) fun r7 h8 =>
    bd (gtI h8 4 x1 0) fun v10 =>
    bd (gtI h8 9 x2 4) fun v11 =>
    if (x6 + (r7 + v10)) ≤ v11 then (
      rec x0 x1 x2 x3 x4 x5 (x6 + (r7 + v10)) (x7 + 1) h8
    ) else (
      some (x7, h8)
    )
  )
def f_X2_drops_l82 : Nat → Nat → Nat → Nat → Nat → Int32 → Int32 → Int32 → Int32 → AH → Option (Int32 × AH)
  | 0 => fun _ _ _ _ _ _ _ _ _ => none
  | n + 1 => fb_X2_drops_l82 (f_X2_drops_l82 n) 
theorem w_X2_drops_l82 (D : va_G) (l : Launch) (hl : l.stackTraces = false) (as : List Value) (h0 : AH) {r : Int32} {hF : AH} : ∀ (n : Nat) (x0 : Nat) (x1 : Nat) (x2 : Nat) (x3 : Nat) (x4 : Int32) (x5 : Int32) (x6 : Int32) (x7 : Int32) (h : AH), f_X2_drops_l82 n x0 x1 x2 x3 x4 x5 x6 x7 h = some (r, hF) → V (G_X2_drops D l as h0 hF (oI r)) h 82 [(0, .ref x0), (1, .ref x1), (2, .ref x2), (3, .ref x3), (4, .int x4), (5, .int x5), (6, .int x6), (7, .int x7)] [] := by
  intro n; induction n with
  | zero => intro x0 x1 x2 x3 x4 x5 x6 x7 h e; exact absurd (show (none : Option (Int32 × AH)) = some _ from e) (fun z => nomatch z)
  | succ n IH =>
    intro x0 x1 x2 x3 x4 x5 x6 x7 h e
    have e : fb_X2_drops_l82 (f_X2_drops_l82 n) x0 x1 x2 x3 x4 x5 x6 x7 h = some (r, hF) := e
    unfold fb_X2_drops_l82 at e
    refine v_iload (pc' := 84) hc_X2_drops dX2_drops_82 rfl 4 rfl ?_
    refine v_iload (pc' := 86) hc_X2_drops dX2_drops_84 rfl 7 rfl ?_
    refine v_iadd (pc' := 87) hc_X2_drops dX2_drops_86 rfl ?_
    refine v_aload_n (pc' := 88) hc_X2_drops dX2_drops_87 rfl rfl 1 rfl ?_
    refine v_gnI (pc' := 91) hc_X2_drops ho_X2_drops KX5 1 (Nat.le_of_ble_eq_true rfl) q877 rfl dX2_drops_88 rfl e (fun v1 _ e => ?_)
    refine v_icmp_ge (pt := 147) (pf := 94) hc_X2_drops dX2_drops_91 rfl rfl e (fun _ e => ?_) (fun _ e => ?_)
    · refine v_iload (pc' := 149) hc_X2_drops dX2_drops_147 rfl 7 rfl ?_
      obtain ⟨rfl, rfl⟩ := ret_of e
      exact v_iret hc_X2_drops rfl dX2_drops_149 rfl rfl
    · refine v_aload_n (pc' := 95) hc_X2_drops dX2_drops_94 rfl rfl 0 rfl ?_
      refine v_aload_n (pc' := 96) hc_X2_drops dX2_drops_95 rfl rfl 2 rfl ?_
      refine v_iload (pc' := 98) hc_X2_drops dX2_drops_96 rfl 6 rfl ?_
      refine v_aload_n (pc' := 99) hc_X2_drops dX2_drops_98 rfl rfl 3 rfl ?_
      refine v_iload (pc' := 101) hc_X2_drops dX2_drops_99 rfl 5 rfl ?_
      refine v_iload (pc' := 103) hc_X2_drops dX2_drops_101 rfl 4 rfl ?_
      refine v_iload (pc' := 105) hc_X2_drops dX2_drops_103 rfl 7 rfl ?_
      refine v_iadd (pc' := 106) hc_X2_drops dX2_drops_105 rfl ?_
      obtain ⟨c2, e⟩ := gd_of e
      obtain ⟨r3, h4, e5, e⟩ := bd2_of e
      refine k_V (pc' := 109) (ci := 7) (n := 2) hc_X2_drops ho_X2_drops rfl c2 (w_X8_begin D l hl x3 x5 (x4 + x7) h e5) (wA_l q1350) q1351 (wA_l q1352) q107 q1353 hy_77 ⟨Nat.le_of_ble_eq_true rfl, Nat.le_of_ble_eq_true rfl⟩ rfl rfl (Nat.le_of_ble_eq_true rfl) dX2_drops_106 rfl (kS ?_) kN
      obtain ⟨c6, e⟩ := gd_of e
      obtain ⟨r7, h8, e9, e⟩ := bd2_of e
      refine k_V (pc' := 112) (ci := 1) (n := 3) hc_X2_drops ho_X2_drops rfl c6 (w_X2_waste D l hl x0 x2 x6 r3 h4 e9) (wA_l q1372) q1374 (wA_l qs11) q76 q1375 hy_79 ⟨Nat.le_of_ble_eq_true rfl, Nat.le_of_ble_eq_true rfl⟩ rfl rfl (Nat.le_of_ble_eq_true rfl) dX2_drops_109 rfl (kS ?_) kN
      refine v_aload_n (pc' := 113) hc_X2_drops dX2_drops_112 rfl rfl 1 rfl ?_
      refine v_gnI (pc' := 116) hc_X2_drops ho_X2_drops KX5 0 (Nat.le_of_ble_eq_true rfl) q874 rfl dX2_drops_113 rfl e (fun v10 _ e => ?_)
      refine v_iadd (pc' := 117) hc_X2_drops dX2_drops_116 rfl ?_
      refine v_istore (pc' := 119) (lv' := [(8, .int (r7 + v10)), (0, .ref x0), (1, .ref x1), (2, .ref x2), (3, .ref x3), (4, .int x4), (5, .int x5), (6, .int x6), (7, .int x7)]) hc_X2_drops dX2_drops_117 rfl (Nat.le_of_ble_eq_true rfl) rfl ?_
      refine v_iload (pc' := 121) hc_X2_drops dX2_drops_119 rfl 7 rfl ?_
      refine v_iload (pc' := 123) hc_X2_drops dX2_drops_121 rfl 0 rfl ?_
      refine v_iadd (pc' := 124) hc_X2_drops dX2_drops_123 rfl ?_
      refine v_aload_n (pc' := 125) hc_X2_drops dX2_drops_124 rfl rfl 3 rfl ?_
      refine v_gnI (pc' := 128) hc_X2_drops ho_X2_drops KX10 4 (Nat.le_of_ble_eq_true rfl) q1252 rfl dX2_drops_125 rfl e (fun v11 _ e => ?_)
      refine v_icmp_le (pt := 134) (pf := 131) hc_X2_drops dX2_drops_128 rfl rfl e (fun _ e => ?_) (fun _ e => ?_)
      · refine v_iload (pc' := 136) hc_X2_drops dX2_drops_134 rfl 7 rfl ?_
        refine v_iload (pc' := 138) hc_X2_drops dX2_drops_136 rfl 0 rfl ?_
        refine v_iadd (pc' := 139) hc_X2_drops dX2_drops_138 rfl ?_
        refine v_istore (pc' := 141) (lv' := [(6, .int (x6 + (r7 + v10))), (8, .int (r7 + v10)), (0, .ref x0), (1, .ref x1), (2, .ref x2), (3, .ref x3), (4, .int x4), (5, .int x5), (7, .int x7)]) hc_X2_drops dX2_drops_139 rfl (Nat.le_of_ble_eq_true rfl) rfl ?_
        refine v_iinc (pc' := 144) (lv' := [(7, .int (x7 + 1)), (6, .int (x6 + (r7 + v10))), (8, .int (r7 + v10)), (0, .ref x0), (1, .ref x1), (2, .ref x2), (3, .ref x3), (4, .int x4), (5, .int x5)]) (v := x7 + 1) hc_X2_drops dX2_drops_141 rfl 8 rfl rfl (Nat.le_of_ble_eq_true rfl) rfl ?_
        refine v_goto (pt := 82) hc_X2_drops dX2_drops_144 rfl ?_
        refine v_pick [3, 4, 5, 6, 7, 8, 1, 0] rfl ?_
        exact IH x0 x1 x2 x3 x4 x5 (x6 + (r7 + v10)) (x7 + 1) h8 e
      · refine v_iload (pc' := 133) hc_X2_drops dX2_drops_131 rfl 8 rfl ?_
        obtain ⟨rfl, rfl⟩ := ret_of e
        exact v_iret hc_X2_drops rfl dX2_drops_133 rfl rfl
def f_X2_drops (x0 : Nat) (x1 : Nat) (x2 : Nat) (h : AH) : Option (Int32 × AH) :=
  gd (isC h 1 x0) <|
  bd2 (f_X2_reason x0 x1 x2 h) fun r2 h3 =>
  if r2 = 0 then (
    bd (gtR h3 1 x0 0) fun v5 =>
    bd (gtI h3 9 x2 0) fun v6 =>
    gd (isC h3 16 v5) <|
    bd2 (f_J2_get v5 v6 h3) fun r8 h9 =>
    gd (isC h9 7 r8) <|
    bd (gtR h9 4 x1 2) fun v12 =>
    gd (isC h9 16 v12) <|
    bd2 (f_J2_size v12 h9) fun r14 h15 =>
    if r14 = 0 then (
      bd (gtI h15 9 x2 5) fun v17 =>
      gd (isC h15 7 r8) <|
      bd2 (f_X11_within r8 v17 h15) fun r19 h20 =>
      bd (gtI h20 9 x2 5) fun v22 =>
      f_X2_drops_l82 NN x0 x1 x2 r8 r14 r19 v22 (0 : Int32) h20
    ) else (
      bd (gtR h15 4 x1 2) fun v23 =>
      gd (isC h15 16 v23) <|
      bd2 (f_J2_get v23 (0 : Int32) h15) fun r25 h26 =>
      gd (isC h26 10 r25) <|
      bd (gtI h26 10 r25 1) fun v29 =>
      bd (gtI h26 9 x2 5) fun v30 =>
      f_X2_drops_l82 NN x0 x1 x2 r8 r14 v29 v30 (0 : Int32) h26
    )
  ) else (
    some ((0 : Int32), h3)
  )
theorem v_X2_drops (D : va_G) (l : Launch) (hl : l.stackTraces = false) (as : List Value) (h0 : AH) {r : Int32} {hF : AH} (x0 : Nat) (x1 : Nat) (x2 : Nat) (h : AH) (e : f_X2_drops x0 x1 x2 h = some (r, hF)) : V (G_X2_drops D l as h0 hF (oI r)) h 0 [(0, .ref x0), (1, .ref x1), (2, .ref x2)] [] := by
  unfold f_X2_drops at e
  refine v_aload_n (pc' := 1) hc_X2_drops dX2_drops_0 rfl rfl 0 rfl ?_
  refine v_aload_n (pc' := 2) hc_X2_drops dX2_drops_1 rfl rfl 1 rfl ?_
  refine v_aload_n (pc' := 3) hc_X2_drops dX2_drops_2 rfl rfl 2 rfl ?_
  obtain ⟨c1, e⟩ := gd_of e
  obtain ⟨r2, h3, e4, e⟩ := bd2_of e
  refine k_V (pc' := 6) (ci := 1) (n := 2) hc_X2_drops ho_X2_drops rfl c1 (w_X2_reason D l hl x0 x1 x2 h e4) (wA_l q1314) q1315 (wA_l q1316) q76 q1317 hy_82 ⟨Nat.le_of_ble_eq_true rfl, Nat.le_of_ble_eq_true rfl⟩ rfl rfl (Nat.le_of_ble_eq_true rfl) dX2_drops_3 rfl (kS ?_) kN
  refine v_if_eq (pt := 11) (pf := 9) hc_X2_drops dX2_drops_6 rfl rfl e (fun _ e => ?_) (fun _ e => ?_)
  · refine v_aload_n (pc' := 12) hc_X2_drops dX2_drops_11 rfl rfl 0 rfl ?_
    refine v_gfR (pc' := 15) hc_X2_drops ho_X2_drops KX2 0 (Nat.le_of_ble_eq_true rfl) q164 (Or.inl rfl) dX2_drops_12 rfl e (fun v5 _ e => ?_)
    refine v_aload_n (pc' := 16) hc_X2_drops dX2_drops_15 rfl rfl 2 rfl ?_
    refine v_gnI (pc' := 19) hc_X2_drops ho_X2_drops KX10 0 (Nat.le_of_ble_eq_true rfl) q1242 rfl dX2_drops_16 rfl e (fun v6 _ e => ?_)
    obtain ⟨c7, e⟩ := gd_of e
    obtain ⟨r8, h9, e10, e⟩ := bd2_of e
    refine k_F (pc' := 24) (x := ⟨"java/util/List", "get", "(I)Ljava/lang/Object;"⟩) (y := ⟨"java/util/ArrayList", "get", "(I)Ljava/lang/Object;"⟩) (ci := 16) (n := 1) hc_X2_drops ho_X2_drops rfl c7 (w_J2_get D l hl v5 v6 h3 e10) (wA_l q515) (by decide +kernel) q401 q403 q79 q405 hy_23 ⟨Nat.le_of_ble_eq_true rfl, Nat.le_of_ble_eq_true rfl⟩ rfl rfl (Nat.le_of_ble_eq_true rfl) dX2_drops_19 rfl (kS ?_) kN
    obtain ⟨c11, e⟩ := gd_of e
    refine v_cast (pc' := 27) (ci := 7) hc_X2_drops ho_X2_drops rfl q1120 (Or.inl rfl) dX2_drops_24 rfl c11 ?_
    refine v_astore_n (pc' := 28) (lv' := [(3, .ref r8), (0, .ref x0), (1, .ref x1), (2, .ref x2)]) hc_X2_drops dX2_drops_27 rfl rfl (Nat.le_of_ble_eq_true rfl) rfl ?_
    refine v_aload_n (pc' := 29) hc_X2_drops dX2_drops_28 rfl rfl 2 rfl ?_
    refine v_gnR (pc' := 32) hc_X2_drops ho_X2_drops KX5 2 (Nat.le_of_ble_eq_true rfl) q882 rfl dX2_drops_29 rfl e (fun v12 _ e => ?_)
    obtain ⟨c13, e⟩ := gd_of e
    obtain ⟨r14, h15, e16, e⟩ := bd2_of e
    refine k_F (pc' := 37) (x := ⟨"java/util/List", "size", "()I"⟩) (y := ⟨"java/util/ArrayList", "size", "()I"⟩) (ci := 16) (n := 0) hc_X2_drops ho_X2_drops rfl c13 (w_J2_size D l hl v12 h9 e16) (wA_l q513) (by decide +kernel) q348 q350 q79 q352 hy_19 ⟨Nat.le_of_ble_eq_true rfl, Nat.le_of_ble_eq_true rfl⟩ rfl rfl (Nat.le_of_ble_eq_true rfl) dX2_drops_32 rfl (kS ?_) kN
    refine v_istore (pc' := 39) (lv' := [(4, .int r14), (3, .ref r8), (0, .ref x0), (1, .ref x1), (2, .ref x2)]) hc_X2_drops dX2_drops_37 rfl (Nat.le_of_ble_eq_true rfl) rfl ?_
    refine v_iload (pc' := 41) hc_X2_drops dX2_drops_39 rfl 0 rfl ?_
    refine v_if_ne (pt := 55) (pf := 44) hc_X2_drops dX2_drops_41 rfl rfl e (fun _ e => ?_) (fun _ e => ?_)
    · refine v_aload_n (pc' := 45) hc_X2_drops dX2_drops_44 rfl rfl 1 rfl ?_
      refine v_aload_n (pc' := 46) hc_X2_drops dX2_drops_45 rfl rfl 4 rfl ?_
      refine v_gnI (pc' := 49) hc_X2_drops ho_X2_drops KX10 5 (Nat.le_of_ble_eq_true rfl) q1256 rfl dX2_drops_46 rfl e (fun v17 _ e => ?_)
      obtain ⟨c18, e⟩ := gd_of e
      obtain ⟨r19, h20, e21, e⟩ := bd2_of e
      refine k_D (pc' := 52) (x := ⟨"BlockPapers$Block", "within", "(I)I"⟩) (owner := "BlockPapers$Patterned") (ci := 7) (n := 1) hc_X2_drops ho_X2_drops rfl c18 (w_X11_within D l hl r8 v17 h15 e21) qdf2 qdf1 q1354 (by decide +kernel) q1356 q110 q1358 ⟨by decide +kernel, by decide +kernel, by decide +kernel⟩ ⟨Nat.le_of_ble_eq_true rfl, Nat.le_of_ble_eq_true rfl⟩ rfl rfl (Nat.le_of_ble_eq_true rfl) dX2_drops_49 rfl (kD ?_)
      refine v_goto (pt := 71) hc_X2_drops dX2_drops_52 rfl ?_
      refine v_istore (pc' := 73) (lv' := [(5, .int r19), (4, .int r14), (3, .ref r8), (0, .ref x0), (1, .ref x1), (2, .ref x2)]) hc_X2_drops dX2_drops_71 rfl (Nat.le_of_ble_eq_true rfl) rfl ?_
      refine v_aload_n (pc' := 74) hc_X2_drops dX2_drops_73 rfl rfl 5 rfl ?_
      refine v_gnI (pc' := 77) hc_X2_drops ho_X2_drops KX10 5 (Nat.le_of_ble_eq_true rfl) q1256 rfl dX2_drops_74 rfl e (fun v22 _ e => ?_)
      refine v_istore (pc' := 79) (lv' := [(6, .int v22), (5, .int r19), (4, .int r14), (3, .ref r8), (0, .ref x0), (1, .ref x1), (2, .ref x2)]) hc_X2_drops dX2_drops_77 rfl (Nat.le_of_ble_eq_true rfl) rfl ?_
      refine v_iconst (pc' := 80) (v := 0) hc_X2_drops dX2_drops_79 rfl rfl ?_
      refine v_istore (pc' := 82) (lv' := [(7, .int (0 : Int32)), (6, .int v22), (5, .int r19), (4, .int r14), (3, .ref r8), (0, .ref x0), (1, .ref x1), (2, .ref x2)]) hc_X2_drops dX2_drops_80 rfl (Nat.le_of_ble_eq_true rfl) rfl ?_
      refine v_pick [5, 6, 7, 4, 3, 2, 1, 0] rfl ?_
      exact w_X2_drops_l82 D l hl as h0 NN x0 x1 x2 r8 r14 r19 v22 (0 : Int32) h20 e
    · refine v_aload_n (pc' := 56) hc_X2_drops dX2_drops_55 rfl rfl 3 rfl ?_
      refine v_gnR (pc' := 59) hc_X2_drops ho_X2_drops KX5 2 (Nat.le_of_ble_eq_true rfl) q882 rfl dX2_drops_56 rfl e (fun v23 _ e => ?_)
      refine v_iconst (pc' := 60) (v := 0) hc_X2_drops dX2_drops_59 rfl rfl ?_
      obtain ⟨c24, e⟩ := gd_of e
      obtain ⟨r25, h26, e27, e⟩ := bd2_of e
      refine k_F (pc' := 65) (x := ⟨"java/util/List", "get", "(I)Ljava/lang/Object;"⟩) (y := ⟨"java/util/ArrayList", "get", "(I)Ljava/lang/Object;"⟩) (ci := 16) (n := 1) hc_X2_drops ho_X2_drops rfl c24 (w_J2_get D l hl v23 (0 : Int32) h15 e27) (wA_l q515) (by decide +kernel) q401 q403 q79 q405 hy_23 ⟨Nat.le_of_ble_eq_true rfl, Nat.le_of_ble_eq_true rfl⟩ rfl rfl (Nat.le_of_ble_eq_true rfl) dX2_drops_60 rfl (kS ?_) kN
      obtain ⟨c28, e⟩ := gd_of e
      refine v_cast (pc' := 68) (ci := 10) hc_X2_drops ho_X2_drops rfl q507 (Or.inl rfl) dX2_drops_65 rfl c28 ?_
      refine v_gnI (pc' := 71) hc_X2_drops ho_X2_drops KX12 1 (Nat.le_of_ble_eq_true rfl) q1401 rfl dX2_drops_68 rfl e (fun v29 _ e => ?_)
      refine v_istore (pc' := 73) (lv' := [(5, .int v29), (4, .int r14), (3, .ref r8), (0, .ref x0), (1, .ref x1), (2, .ref x2)]) hc_X2_drops dX2_drops_71 rfl (Nat.le_of_ble_eq_true rfl) rfl ?_
      refine v_aload_n (pc' := 74) hc_X2_drops dX2_drops_73 rfl rfl 5 rfl ?_
      refine v_gnI (pc' := 77) hc_X2_drops ho_X2_drops KX10 5 (Nat.le_of_ble_eq_true rfl) q1256 rfl dX2_drops_74 rfl e (fun v30 _ e => ?_)
      refine v_istore (pc' := 79) (lv' := [(6, .int v30), (5, .int v29), (4, .int r14), (3, .ref r8), (0, .ref x0), (1, .ref x1), (2, .ref x2)]) hc_X2_drops dX2_drops_77 rfl (Nat.le_of_ble_eq_true rfl) rfl ?_
      refine v_iconst (pc' := 80) (v := 0) hc_X2_drops dX2_drops_79 rfl rfl ?_
      refine v_istore (pc' := 82) (lv' := [(7, .int (0 : Int32)), (6, .int v30), (5, .int v29), (4, .int r14), (3, .ref r8), (0, .ref x0), (1, .ref x1), (2, .ref x2)]) hc_X2_drops dX2_drops_80 rfl (Nat.le_of_ble_eq_true rfl) rfl ?_
      refine v_pick [5, 6, 7, 4, 3, 2, 1, 0] rfl ?_
      exact w_X2_drops_l82 D l hl as h0 NN x0 x1 x2 r8 r14 v29 v30 (0 : Int32) h26 e
  · refine v_iconst (pc' := 10) (v := 0) hc_X2_drops dX2_drops_9 rfl rfl ?_
    obtain ⟨rfl, rfl⟩ := ret_of e
    exact v_iret hc_X2_drops rfl dX2_drops_10 rfl rfl
theorem w_X2_drops (D : va_G) (l : Launch) (hl : l.stackTraces = false) (x0 : Nat) (x1 : Nat) (x2 : Nat) (h : AH) {r : Int32} {hF : AH} (e : f_X2_drops x0 x1 x2 h = some (r, hF)) : MetV D l yX2_drops (Cond.code yX2_drops cX2_drops 9 (Option.some .int)) 8 200 [.ref x0, .ref x1, .ref x2] h hF (oI r) :=
  met_ofF (by decide +kernel) hl (Nat.le_of_ble_eq_true rfl) rfl (v_X2_drops D l hl [.ref x0, .ref x1, .ref x2] h x0 x1 x2 h e)
/-! BlockPapers.dropsFrom(II)I  -/
abbrev G_X1_dropsFrom (D : va_G) (l : Launch) (as : List Value) (h0 hF : AH) (o : Out) : CT := (D, l, (yX1_dropsFrom.cls, yX1_dropsFrom, cX1_dropsFrom, 3, (Option.some .int), 9, 228, []), as, h0, hF, o)
theorem hc_X1_dropsFrom {D : va_G} {l : Launch} {as : List Value} {h0 hF : AH} {o : Out} : gC (G_X1_dropsFrom D l as h0 hF o) = cX1_dropsFrom := rfl
theorem ho_X1_dropsFrom {D : va_G} {l : Launch} {as : List Value} {h0 hF : AH} {o : Out} : gO (G_X1_dropsFrom D l as h0 hF o) = "BlockPapers" := rfl
theorem hp_X1_dropsFrom {D : va_G} {l : Launch} {as : List Value} {h0 hF : AH} {o : Out} (pc : Nat) : ∀ z ∈ tableOf (gHd (G_X1_dropsFrom D l as h0 hF o)), covers z pc = false := hpN
def f_X1_dropsFrom (x0 : Nat) (x1 : Int32) (x2 : Int32) (h : AH) : Option ((Int32 ⊕ Nat) × AH) :=
  bd (gtR h 0 x0 0) fun v1 =>
  bd (gtR h 0 x0 0) fun v2 =>
  gd (isC h 1 v2) <|
  bdX (f_X2_room v2 x1 h) (fun zq17 h5 =>
    outX h5 zq17
  ) fun r4 h5 =>
  bd (gtR h5 0 x0 0) fun v7 =>
  gd (isC h5 1 v7) <|
  bdX (f_X2_roll v7 x2 h5) (fun zq16 h10 =>
    outX h10 zq16
  ) fun r9 h10 =>
  gd (isC h10 1 v1) <|
  bd2 (f_X2_drops v1 r4 r9 h10) fun r13 h14 =>
  some (.inl r13, h14)
theorem v_X1_dropsFrom (D : va_G) (l : Launch) (hl : l.stackTraces = false) (as : List Value) (h0 : AH) {r : (Int32 ⊕ Nat)} {hF : AH} (x0 : Nat) (x1 : Int32) (x2 : Int32) (h : AH) (e : f_X1_dropsFrom x0 x1 x2 h = some (r, hF)) : V (G_X1_dropsFrom D l as h0 hF ((oX oI) r)) h 0 [(0, .ref x0), (1, .int x1), (2, .int x2)] [] := by
  unfold f_X1_dropsFrom at e
  refine v_aload_n (pc' := 1) hc_X1_dropsFrom dX1_dropsFrom_0 rfl rfl 0 rfl ?_
  refine v_gfR (pc' := 4) hc_X1_dropsFrom ho_X1_dropsFrom KX1 0 (Nat.le_of_ble_eq_true rfl) q235 (Or.inl rfl) dX1_dropsFrom_1 rfl e (fun v1 _ e => ?_)
  refine v_aload_n (pc' := 5) hc_X1_dropsFrom dX1_dropsFrom_4 rfl rfl 0 rfl ?_
  refine v_gfR (pc' := 8) hc_X1_dropsFrom ho_X1_dropsFrom KX1 0 (Nat.le_of_ble_eq_true rfl) q235 (Or.inl rfl) dX1_dropsFrom_5 rfl e (fun v2 _ e => ?_)
  refine v_iload_n (pc' := 9) hc_X1_dropsFrom dX1_dropsFrom_8 rfl rfl 1 rfl ?_
  obtain ⟨c3, e⟩ := gd_of e
  rcases bdX_of e with ⟨r4, h5, e6, e⟩ | ⟨zq17, h5, e6, e⟩
  · refine k_V (pc' := 12) (ci := 1) (n := 1) hc_X1_dropsFrom ho_X1_dropsFrom rfl c3 (w_X2_room D l hl v2 x1 h e6) (wA_l q1645) q1311 (wA_l q1312) q76 q1313 hy_69 ⟨Nat.le_of_ble_eq_true rfl, Nat.le_of_ble_eq_true rfl⟩ rfl rfl (Nat.le_of_ble_eq_true rfl) dX1_dropsFrom_9 rfl (kS ?_) kN
    refine v_aload_n (pc' := 13) hc_X1_dropsFrom dX1_dropsFrom_12 rfl rfl 0 rfl ?_
    refine v_gfR (pc' := 16) hc_X1_dropsFrom ho_X1_dropsFrom KX1 0 (Nat.le_of_ble_eq_true rfl) q235 (Or.inl rfl) dX1_dropsFrom_13 rfl e (fun v7 _ e => ?_)
    refine v_iload_n (pc' := 17) hc_X1_dropsFrom dX1_dropsFrom_16 rfl rfl 2 rfl ?_
    obtain ⟨c8, e⟩ := gd_of e
    rcases bdX_of e with ⟨r9, h10, e11, e⟩ | ⟨zq16, h10, e11, e⟩
    · refine k_V (pc' := 20) (ci := 1) (n := 1) hc_X1_dropsFrom ho_X1_dropsFrom rfl c8 (w_X2_roll D l hl v7 x2 h5 e11) (wA_l q1620) q1286 (wA_l q1287) q76 q1288 hy_63 ⟨Nat.le_of_ble_eq_true rfl, Nat.le_of_ble_eq_true rfl⟩ rfl rfl (Nat.le_of_ble_eq_true rfl) dX1_dropsFrom_17 rfl (kS ?_) kN
      obtain ⟨c12, e⟩ := gd_of e
      obtain ⟨r13, h14, e15, e⟩ := bd2_of e
      refine k_V (pc' := 23) (ci := 1) (n := 2) hc_X1_dropsFrom ho_X1_dropsFrom rfl c12 (w_X2_drops D l hl v1 r4 r9 h10 e15) (wA_l q1714) q1715 (wA_l q1716) q76 q1717 hy_216 ⟨Nat.le_of_ble_eq_true rfl, Nat.le_of_ble_eq_true rfl⟩ rfl rfl (Nat.le_of_ble_eq_true rfl) dX1_dropsFrom_20 rfl (kS ?_) kN
      obtain ⟨rfl, rfl⟩ := ret_of e
      exact v_iret hc_X1_dropsFrom rfl dX1_dropsFrom_23 rfl rfl
    · refine k_V (pc' := 20) (ci := 1) (n := 1) hc_X1_dropsFrom ho_X1_dropsFrom rfl c8 (w_X2_roll D l hl v7 x2 h5 e11) (wA_l q1620) q1286 (wA_l q1287) q76 q1288 hy_63 ⟨Nat.le_of_ble_eq_true rfl, Nat.le_of_ble_eq_true rfl⟩ rfl rfl (Nat.le_of_ble_eq_true rfl) dX1_dropsFrom_17 rfl kM (kX ?_)
      exact v_outA (hp_X1_dropsFrom _) rfl rfl e
  · refine k_V (pc' := 12) (ci := 1) (n := 1) hc_X1_dropsFrom ho_X1_dropsFrom rfl c3 (w_X2_room D l hl v2 x1 h e6) (wA_l q1645) q1311 (wA_l q1312) q76 q1313 hy_69 ⟨Nat.le_of_ble_eq_true rfl, Nat.le_of_ble_eq_true rfl⟩ rfl rfl (Nat.le_of_ble_eq_true rfl) dX1_dropsFrom_9 rfl kM (kX ?_)
    exact v_outA (hp_X1_dropsFrom _) rfl rfl e
theorem w_X1_dropsFrom (D : va_G) (l : Launch) (hl : l.stackTraces = false) (x0 : Nat) (x1 : Int32) (x2 : Int32) (h : AH) {r : (Int32 ⊕ Nat)} {hF : AH} (e : f_X1_dropsFrom x0 x1 x2 h = some (r, hF)) : MetV D l yX1_dropsFrom (Cond.code yX1_dropsFrom cX1_dropsFrom 3 (Option.some .int)) 9 228 [.ref x0, .int x1, .int x2] h hF ((oX oI) r) :=
  met_ofF (by decide +kernel) hl (Nat.le_of_ble_eq_true rfl) rfl (v_X1_dropsFrom D l hl [.ref x0, .int x1, .int x2] h x0 x1 x2 h e)
/-! BlockPapers.dropsAgain(II)I  -/
abbrev G_X1_dropsAgain (D : va_G) (l : Launch) (as : List Value) (h0 hF : AH) (o : Out) : CT := (D, l, (yX1_dropsAgain.cls, yX1_dropsAgain, cX1_dropsAgain, 8, (Option.some .int), 10, 242, []), as, h0, hF, o)
theorem hc_X1_dropsAgain {D : va_G} {l : Launch} {as : List Value} {h0 hF : AH} {o : Out} : gC (G_X1_dropsAgain D l as h0 hF o) = cX1_dropsAgain := rfl
theorem ho_X1_dropsAgain {D : va_G} {l : Launch} {as : List Value} {h0 hF : AH} {o : Out} : gO (G_X1_dropsAgain D l as h0 hF o) = "BlockPapers" := rfl
theorem hp_X1_dropsAgain {D : va_G} {l : Launch} {as : List Value} {h0 hF : AH} {o : Out} (pc : Nat) : ∀ z ∈ tableOf (gHd (G_X1_dropsAgain D l as h0 hF o)), covers z pc = false := hpN
def fb_X1_dropsAgain_l28 (rec : Int32 → Int32 → Nat → Int32 → AH → Option ((Int32 ⊕ Nat) × AH)) (x1 : Int32) (x2 : Int32) (x5 : Nat) (x6 : Int32) (h : AH) : Option ((Int32 ⊕ Nat) × AH) :=
  bd (gtR h 1 x5 3) fun v1 =>
  gd (isC h 16 v1) <|
  bd2 (f_J2_get v1 x1 h) fun r3 h4 =>
  gd (isC h4 4 r3) <|
  bd (gtR h4 1 x5 2) fun v7 =>
  gd (isC h4 16 v7) <|
  bd2 (f_J2_get v7 x2 h4) fun r9 h10 =>
  gd (isC h10 9 r9) <|
  gd (isC h10 1 x5) <|
  bd2 (f_X2_reason x5 r3 r9 h10) fun r14 h15 =>
  if r14 = 0 then (
    bd (gtR h15 1 x5 3) fun v17 =>
    gd (isC h15 16 v17) <|
    bd2 (f_J2_get v17 x1 h15) fun r19 h20 =>
    gd (isC h20 4 r19) <|
    gd (isC h20 1 x5) <|
    bd2 (f_X2_hang_2 x5 r19 x2 h20) fun r24 h25 =>
    rec x1 x2 x5 (x6 + 1) h25
  ) else (
    some (.inl x6, h15)
  )
def f_X1_dropsAgain_l28 : Nat → Int32 → Int32 → Nat → Int32 → AH → Option ((Int32 ⊕ Nat) × AH)
  | 0 => fun _ _ _ _ _ => none
  | n + 1 => fb_X1_dropsAgain_l28 (f_X1_dropsAgain_l28 n) 
theorem w_X1_dropsAgain_l28 (D : va_G) (l : Launch) (hl : l.stackTraces = false) (as : List Value) (h0 : AH) {r : (Int32 ⊕ Nat)} {hF : AH} : ∀ (n : Nat) (x1 : Int32) (x2 : Int32) (x5 : Nat) (x6 : Int32) (h : AH), f_X1_dropsAgain_l28 n x1 x2 x5 x6 h = some (r, hF) → V (G_X1_dropsAgain D l as h0 hF ((oX oI) r)) h 28 [(1, .int x1), (2, .int x2), (5, .ref x5), (6, .int x6)] [] := by
  intro n; induction n with
  | zero => intro x1 x2 x5 x6 h e; exact absurd (show (none : Option ((Int32 ⊕ Nat) × AH)) = some _ from e) (fun z => nomatch z)
  | succ n IH =>
    intro x1 x2 x5 x6 h e
    have e : fb_X1_dropsAgain_l28 (f_X1_dropsAgain_l28 n) x1 x2 x5 x6 h = some (r, hF) := e
    unfold fb_X1_dropsAgain_l28 at e
    refine v_aload (pc' := 30) hc_X1_dropsAgain dX1_dropsAgain_28 rfl 2 rfl ?_
    refine v_aload (pc' := 32) hc_X1_dropsAgain dX1_dropsAgain_30 rfl 2 rfl ?_
    refine v_gnR (pc' := 35) hc_X1_dropsAgain ho_X1_dropsAgain KX2 3 (Nat.le_of_ble_eq_true rfl) q173 rfl dX1_dropsAgain_32 rfl e (fun v1 _ e => ?_)
    refine v_iload_n (pc' := 36) hc_X1_dropsAgain dX1_dropsAgain_35 rfl rfl 0 rfl ?_
    obtain ⟨c2, e⟩ := gd_of e
    obtain ⟨r3, h4, e5, e⟩ := bd2_of e
    refine k_F (pc' := 41) (x := ⟨"java/util/List", "get", "(I)Ljava/lang/Object;"⟩) (y := ⟨"java/util/ArrayList", "get", "(I)Ljava/lang/Object;"⟩) (ci := 16) (n := 1) hc_X1_dropsAgain ho_X1_dropsAgain rfl c2 (w_J2_get D l hl v1 x1 h e5) (wA_l q1568) (by decide +kernel) q401 q403 q79 q405 hy_23 ⟨Nat.le_of_ble_eq_true rfl, Nat.le_of_ble_eq_true rfl⟩ rfl rfl (Nat.le_of_ble_eq_true rfl) dX1_dropsAgain_36 rfl (kS ?_) kN
    obtain ⟨c6, e⟩ := gd_of e
    refine v_cast (pc' := 44) (ci := 4) hc_X1_dropsAgain ho_X1_dropsAgain rfl q1725 (Or.inl rfl) dX1_dropsAgain_41 rfl c6 ?_
    refine v_aload (pc' := 46) hc_X1_dropsAgain dX1_dropsAgain_44 rfl 2 rfl ?_
    refine v_gnR (pc' := 49) hc_X1_dropsAgain ho_X1_dropsAgain KX2 2 (Nat.le_of_ble_eq_true rfl) q170 rfl dX1_dropsAgain_46 rfl e (fun v7 _ e => ?_)
    refine v_iload_n (pc' := 50) hc_X1_dropsAgain dX1_dropsAgain_49 rfl rfl 1 rfl ?_
    obtain ⟨c8, e⟩ := gd_of e
    obtain ⟨r9, h10, e11, e⟩ := bd2_of e
    refine k_F (pc' := 55) (x := ⟨"java/util/List", "get", "(I)Ljava/lang/Object;"⟩) (y := ⟨"java/util/ArrayList", "get", "(I)Ljava/lang/Object;"⟩) (ci := 16) (n := 1) hc_X1_dropsAgain ho_X1_dropsAgain rfl c8 (w_J2_get D l hl v7 x2 h4 e11) (wA_l q1568) (by decide +kernel) q401 q403 q79 q405 hy_23 ⟨Nat.le_of_ble_eq_true rfl, Nat.le_of_ble_eq_true rfl⟩ rfl rfl (Nat.le_of_ble_eq_true rfl) dX1_dropsAgain_50 rfl (kS ?_) kN
    obtain ⟨c12, e⟩ := gd_of e
    refine v_cast (pc' := 58) (ci := 9) hc_X1_dropsAgain ho_X1_dropsAgain rfl q467 (Or.inl rfl) dX1_dropsAgain_55 rfl c12 ?_
    obtain ⟨c13, e⟩ := gd_of e
    obtain ⟨r14, h15, e16, e⟩ := bd2_of e
    refine k_V (pc' := 61) (ci := 1) (n := 2) hc_X1_dropsAgain ho_X1_dropsAgain rfl c13 (w_X2_reason D l hl x5 r3 r9 h10 e16) (wA_l q1674) q1315 (wA_l q1316) q76 q1317 hy_82 ⟨Nat.le_of_ble_eq_true rfl, Nat.le_of_ble_eq_true rfl⟩ rfl rfl (Nat.le_of_ble_eq_true rfl) dX1_dropsAgain_58 rfl (kS ?_) kN
    refine v_if_ne (pt := 92) (pf := 64) hc_X1_dropsAgain dX1_dropsAgain_61 rfl rfl e (fun _ e => ?_) (fun _ e => ?_)
    · refine v_aload (pc' := 66) hc_X1_dropsAgain dX1_dropsAgain_64 rfl 2 rfl ?_
      refine v_aload (pc' := 68) hc_X1_dropsAgain dX1_dropsAgain_66 rfl 2 rfl ?_
      refine v_gnR (pc' := 71) hc_X1_dropsAgain ho_X1_dropsAgain KX2 3 (Nat.le_of_ble_eq_true rfl) q173 rfl dX1_dropsAgain_68 rfl e (fun v17 _ e => ?_)
      refine v_iload_n (pc' := 72) hc_X1_dropsAgain dX1_dropsAgain_71 rfl rfl 0 rfl ?_
      obtain ⟨c18, e⟩ := gd_of e
      obtain ⟨r19, h20, e21, e⟩ := bd2_of e
      refine k_F (pc' := 77) (x := ⟨"java/util/List", "get", "(I)Ljava/lang/Object;"⟩) (y := ⟨"java/util/ArrayList", "get", "(I)Ljava/lang/Object;"⟩) (ci := 16) (n := 1) hc_X1_dropsAgain ho_X1_dropsAgain rfl c18 (w_J2_get D l hl v17 x1 h15 e21) (wA_l q1568) (by decide +kernel) q401 q403 q79 q405 hy_23 ⟨Nat.le_of_ble_eq_true rfl, Nat.le_of_ble_eq_true rfl⟩ rfl rfl (Nat.le_of_ble_eq_true rfl) dX1_dropsAgain_72 rfl (kS ?_) kN
      obtain ⟨c22, e⟩ := gd_of e
      refine v_cast (pc' := 80) (ci := 4) hc_X1_dropsAgain ho_X1_dropsAgain rfl q1725 (Or.inl rfl) dX1_dropsAgain_77 rfl c22 ?_
      refine v_iload_n (pc' := 81) hc_X1_dropsAgain dX1_dropsAgain_80 rfl rfl 1 rfl ?_
      obtain ⟨c23, e⟩ := gd_of e
      obtain ⟨r24, h25, e26, e⟩ := bd2_of e
      refine k_VN (pc' := 84) (x := ⟨"BlockPapers$Workshop", "hang", "(LBlockPapers$Room;I)I"⟩) (ci := 1) (n := 2) hc_X1_dropsAgain ho_X1_dropsAgain rfl c23 (w_X2_hang_2 D l hl x5 r19 x2 h20 e26) q1726 q1390 qs12 q76 q1391 hy_86 ⟨Nat.le_of_ble_eq_true rfl, Nat.le_of_ble_eq_true rfl⟩ rfl rfl (Nat.le_of_ble_eq_true rfl) dX1_dropsAgain_81 rfl (kS ?_) kN
      refine v_istore (pc' := 86) (lv' := [(7, .int r24), (1, .int x1), (2, .int x2), (5, .ref x5), (6, .int x6)]) hc_X1_dropsAgain dX1_dropsAgain_84 rfl (Nat.le_of_ble_eq_true rfl) rfl ?_
      refine v_iinc (pc' := 89) (lv' := [(6, .int (x6 + 1)), (7, .int r24), (1, .int x1), (2, .int x2), (5, .ref x5)]) (v := x6 + 1) hc_X1_dropsAgain dX1_dropsAgain_86 rfl 4 rfl rfl (Nat.le_of_ble_eq_true rfl) rfl ?_
      refine v_goto (pt := 28) hc_X1_dropsAgain dX1_dropsAgain_89 rfl ?_
      refine v_pick [2, 3, 4, 0] rfl ?_
      exact IH x1 x2 x5 (x6 + 1) h25 e
    · refine v_iload (pc' := 94) hc_X1_dropsAgain dX1_dropsAgain_92 rfl 3 rfl ?_
      obtain ⟨rfl, rfl⟩ := ret_of e
      exact v_iret hc_X1_dropsAgain rfl dX1_dropsAgain_94 rfl rfl
def f_X1_dropsAgain (x0 : Nat) (x1 : Int32) (x2 : Int32) (h : AH) : Option ((Int32 ⊕ Nat) × AH) :=
  bd (gtR h 0 x0 0) fun v1 =>
  gd (isC h 1 v1) <|
  bdX (f_X2_room v1 x1 h) (fun zq16 h4 =>
    outX h4 zq16
  ) fun r3 h4 =>
  bd (gtR h4 0 x0 0) fun v6 =>
  gd (isC h4 1 v6) <|
  bdX (f_X2_roll v6 x2 h4) (fun zq15 h9 =>
    outX h9 zq15
  ) fun r8 h9 =>
  gd (isC h9 0 x0) <|
  bd2 (f_X1_draft x0 h9) fun r12 h13 =>
  f_X1_dropsAgain_l28 NN x1 x2 r12 (0 : Int32) h13
theorem v_X1_dropsAgain (D : va_G) (l : Launch) (hl : l.stackTraces = false) (as : List Value) (h0 : AH) {r : (Int32 ⊕ Nat)} {hF : AH} (x0 : Nat) (x1 : Int32) (x2 : Int32) (h : AH) (e : f_X1_dropsAgain x0 x1 x2 h = some (r, hF)) : V (G_X1_dropsAgain D l as h0 hF ((oX oI) r)) h 0 [(0, .ref x0), (1, .int x1), (2, .int x2)] [] := by
  unfold f_X1_dropsAgain at e
  refine v_aload_n (pc' := 1) hc_X1_dropsAgain dX1_dropsAgain_0 rfl rfl 0 rfl ?_
  refine v_gfR (pc' := 4) hc_X1_dropsAgain ho_X1_dropsAgain KX1 0 (Nat.le_of_ble_eq_true rfl) q235 (Or.inl rfl) dX1_dropsAgain_1 rfl e (fun v1 _ e => ?_)
  refine v_iload_n (pc' := 5) hc_X1_dropsAgain dX1_dropsAgain_4 rfl rfl 1 rfl ?_
  obtain ⟨c2, e⟩ := gd_of e
  rcases bdX_of e with ⟨r3, h4, e5, e⟩ | ⟨zq16, h4, e5, e⟩
  · refine k_V (pc' := 8) (ci := 1) (n := 1) hc_X1_dropsAgain ho_X1_dropsAgain rfl c2 (w_X2_room D l hl v1 x1 h e5) (wA_l q1645) q1311 (wA_l q1312) q76 q1313 hy_69 ⟨Nat.le_of_ble_eq_true rfl, Nat.le_of_ble_eq_true rfl⟩ rfl rfl (Nat.le_of_ble_eq_true rfl) dX1_dropsAgain_5 rfl (kS ?_) kN
    refine v_astore_n (pc' := 9) (lv' := [(3, .ref r3), (0, .ref x0), (1, .int x1), (2, .int x2)]) hc_X1_dropsAgain dX1_dropsAgain_8 rfl rfl (Nat.le_of_ble_eq_true rfl) rfl ?_
    refine v_aload_n (pc' := 10) hc_X1_dropsAgain dX1_dropsAgain_9 rfl rfl 1 rfl ?_
    refine v_gfR (pc' := 13) hc_X1_dropsAgain ho_X1_dropsAgain KX1 0 (Nat.le_of_ble_eq_true rfl) q235 (Or.inl rfl) dX1_dropsAgain_10 rfl e (fun v6 _ e => ?_)
    refine v_iload_n (pc' := 14) hc_X1_dropsAgain dX1_dropsAgain_13 rfl rfl 3 rfl ?_
    obtain ⟨c7, e⟩ := gd_of e
    rcases bdX_of e with ⟨r8, h9, e10, e⟩ | ⟨zq15, h9, e10, e⟩
    · refine k_V (pc' := 17) (ci := 1) (n := 1) hc_X1_dropsAgain ho_X1_dropsAgain rfl c7 (w_X2_roll D l hl v6 x2 h4 e10) (wA_l q1620) q1286 (wA_l q1287) q76 q1288 hy_63 ⟨Nat.le_of_ble_eq_true rfl, Nat.le_of_ble_eq_true rfl⟩ rfl rfl (Nat.le_of_ble_eq_true rfl) dX1_dropsAgain_14 rfl (kS ?_) kN
      refine v_astore (pc' := 19) (lv' := [(4, .ref r8), (3, .ref r3), (0, .ref x0), (1, .int x1), (2, .int x2)]) hc_X1_dropsAgain dX1_dropsAgain_17 rfl (Nat.le_of_ble_eq_true rfl) rfl ?_
      refine v_aload_n (pc' := 20) hc_X1_dropsAgain dX1_dropsAgain_19 rfl rfl 2 rfl ?_
      obtain ⟨c11, e⟩ := gd_of e
      obtain ⟨r12, h13, e14, e⟩ := bd2_of e
      refine k_V (pc' := 23) (ci := 0) (n := 0) hc_X1_dropsAgain ho_X1_dropsAgain rfl c11 (w_X1_draft D l hl x0 h9 e14) (wA_l q555) q557 (wA_l qs3) q75 q558 hy_30 ⟨Nat.le_of_ble_eq_true rfl, Nat.le_of_ble_eq_true rfl⟩ rfl rfl (Nat.le_of_ble_eq_true rfl) dX1_dropsAgain_20 rfl (kS ?_) kN
      refine v_astore (pc' := 25) (lv' := [(5, .ref r12), (4, .ref r8), (3, .ref r3), (0, .ref x0), (1, .int x1), (2, .int x2)]) hc_X1_dropsAgain dX1_dropsAgain_23 rfl (Nat.le_of_ble_eq_true rfl) rfl ?_
      refine v_iconst (pc' := 26) (v := 0) hc_X1_dropsAgain dX1_dropsAgain_25 rfl rfl ?_
      refine v_istore (pc' := 28) (lv' := [(6, .int (0 : Int32)), (5, .ref r12), (4, .ref r8), (3, .ref r3), (0, .ref x0), (1, .int x1), (2, .int x2)]) hc_X1_dropsAgain dX1_dropsAgain_26 rfl (Nat.le_of_ble_eq_true rfl) rfl ?_
      refine v_pick [5, 6, 1, 0] rfl ?_
      exact w_X1_dropsAgain_l28 D l hl as h0 NN x1 x2 r12 (0 : Int32) h13 e
    · refine k_V (pc' := 17) (ci := 1) (n := 1) hc_X1_dropsAgain ho_X1_dropsAgain rfl c7 (w_X2_roll D l hl v6 x2 h4 e10) (wA_l q1620) q1286 (wA_l q1287) q76 q1288 hy_63 ⟨Nat.le_of_ble_eq_true rfl, Nat.le_of_ble_eq_true rfl⟩ rfl rfl (Nat.le_of_ble_eq_true rfl) dX1_dropsAgain_14 rfl kM (kX ?_)
      exact v_outA (hp_X1_dropsAgain _) rfl rfl e
  · refine k_V (pc' := 8) (ci := 1) (n := 1) hc_X1_dropsAgain ho_X1_dropsAgain rfl c2 (w_X2_room D l hl v1 x1 h e5) (wA_l q1645) q1311 (wA_l q1312) q76 q1313 hy_69 ⟨Nat.le_of_ble_eq_true rfl, Nat.le_of_ble_eq_true rfl⟩ rfl rfl (Nat.le_of_ble_eq_true rfl) dX1_dropsAgain_5 rfl kM (kX ?_)
    exact v_outA (hp_X1_dropsAgain _) rfl rfl e
theorem w_X1_dropsAgain (D : va_G) (l : Launch) (hl : l.stackTraces = false) (x0 : Nat) (x1 : Int32) (x2 : Int32) (h : AH) {r : (Int32 ⊕ Nat)} {hF : AH} (e : f_X1_dropsAgain x0 x1 x2 h = some (r, hF)) : MetV D l yX1_dropsAgain (Cond.code yX1_dropsAgain cX1_dropsAgain 8 (Option.some .int)) 10 242 [.ref x0, .int x1, .int x2] h hF ((oX oI) r) :=
  met_ofF (by decide +kernel) hl (Nat.le_of_ble_eq_true rfl) rfl (v_X1_dropsAgain D l hl [.ref x0, .int x1, .int x2] h x0 x1 x2 h e)
/-! BlockPapers$Roll.sign()Ljava/lang/CharSequence;  -/
abbrev G_X10_sign (D : va_G) (l : Launch) (as : List Value) (h0 hF : AH) (o : Out) : CT := (D, l, (yX10_sign.cls, yX10_sign, cX10_sign, 1, (Option.some (.object "java/lang/CharSequence")), 1, 48, []), as, h0, hF, o)
theorem hc_X10_sign {D : va_G} {l : Launch} {as : List Value} {h0 hF : AH} {o : Out} : gC (G_X10_sign D l as h0 hF o) = cX10_sign := rfl
theorem ho_X10_sign {D : va_G} {l : Launch} {as : List Value} {h0 hF : AH} {o : Out} : gO (G_X10_sign D l as h0 hF o) = "BlockPapers$Roll" := rfl
theorem hp_X10_sign {D : va_G} {l : Launch} {as : List Value} {h0 hF : AH} {o : Out} (pc : Nat) : ∀ z ∈ tableOf (gHd (G_X10_sign D l as h0 hF o)), covers z pc = false := hpN
def f_X10_sign (x0 : Nat) (h : AH) : Option (Nat × AH) :=
  bd (gtI h 9 x0 6) fun v1 =>
  if v1 = 0 then (
    bd (gtI h 9 x0 5) fun v2 =>
    if v2 = 0 then (
      bd (aE h 115) fun v3 =>
      some (v3, h)
    ) else (
      bd (aE h 100) fun v4 =>
      some (v4, h)
    )
  ) else (
    bd (aE h 114) fun v5 =>
    some (v5, h)
  )
theorem v_X10_sign (D : va_G) (l : Launch) (hl : l.stackTraces = false) (as : List Value) (h0 : AH) {r : Nat} {hF : AH} (x0 : Nat) (h : AH) (e : f_X10_sign x0 h = some (r, hF)) : V (G_X10_sign D l as h0 hF (oR r)) h 0 [(0, .ref x0)] [] := by
  unfold f_X10_sign at e
  refine v_aload_n (pc' := 1) hc_X10_sign dX10_sign_0 rfl rfl 0 rfl ?_
  refine v_gfI (pc' := 4) hc_X10_sign ho_X10_sign KX10 6 (Nat.le_of_ble_eq_true rfl) q1258 (Or.inl rfl) dX10_sign_1 rfl e (fun v1 _ e => ?_)
  refine v_if_eq (pt := 12) (pf := 7) hc_X10_sign dX10_sign_4 rfl rfl e (fun _ e => ?_) (fun _ e => ?_)
  · refine v_aload_n (pc' := 13) hc_X10_sign dX10_sign_12 rfl rfl 0 rfl ?_
    refine v_gfI (pc' := 16) hc_X10_sign ho_X10_sign KX10 5 (Nat.le_of_ble_eq_true rfl) q1255 (Or.inl rfl) dX10_sign_13 rfl e (fun v2 _ e => ?_)
    refine v_if_ne (pt := 24) (pf := 19) hc_X10_sign dX10_sign_16 rfl rfl e (fun _ e => ?_) (fun _ e => ?_)
    · refine v_ldcS (pc' := 21) (tx := ", whole") (j := 115) hc_X10_sign ho_X10_sign (by decide +kernel) dX10_sign_19 rfl e (fun v3 _ e => ?_)
      refine v_goto (pt := 26) hc_X10_sign dX10_sign_21 rfl ?_
      obtain ⟨rfl, rfl⟩ := ret_of e
      exact v_aret hc_X10_sign rfl (Or.inl ⟨_, rfl⟩) (Or.inr ⟨_, rfl⟩) dX10_sign_26 rfl rfl
    · refine v_ldcS (pc' := 26) (tx := "") (j := 100) hc_X10_sign ho_X10_sign (by decide +kernel) dX10_sign_24 rfl e (fun v4 _ e => ?_)
      obtain ⟨rfl, rfl⟩ := ret_of e
      exact v_aret hc_X10_sign rfl (Or.inl ⟨_, rfl⟩) (Or.inr ⟨_, rfl⟩) dX10_sign_26 rfl rfl
  · refine v_ldcS (pc' := 9) (tx := ", given back") (j := 114) hc_X10_sign ho_X10_sign (by decide +kernel) dX10_sign_7 rfl e (fun v5 _ e => ?_)
    refine v_goto (pt := 26) hc_X10_sign dX10_sign_9 rfl ?_
    obtain ⟨rfl, rfl⟩ := ret_of e
    exact v_aret hc_X10_sign rfl (Or.inl ⟨_, rfl⟩) (Or.inr ⟨_, rfl⟩) dX10_sign_26 rfl rfl
theorem w_X10_sign (D : va_G) (l : Launch) (hl : l.stackTraces = false) (x0 : Nat) (h : AH) {r : Nat} {hF : AH} (e : f_X10_sign x0 h = some (r, hF)) : MetV D l yX10_sign (Cond.code yX10_sign cX10_sign 1 (Option.some (.object "java/lang/CharSequence"))) 1 48 [.ref x0] h hF (oR r) :=
  met_ofF (by decide +kernel) hl (Nat.le_of_ble_eq_true rfl) rfl (v_X10_sign D l hl [.ref x0] h x0 h e)
/-! BlockPapers.line(I)I  -/
abbrev G_X1_line (D : va_G) (l : Launch) (as : List Value) (h0 hF : AH) (o : Out) : CT := (D, l, (yX1_line.cls, yX1_line, cX1_line, 4, (Option.some .int), 10, 248, []), as, h0, hF, o)
theorem hc_X1_line {D : va_G} {l : Launch} {as : List Value} {h0 hF : AH} {o : Out} : gC (G_X1_line D l as h0 hF o) = cX1_line := rfl
theorem ho_X1_line {D : va_G} {l : Launch} {as : List Value} {h0 hF : AH} {o : Out} : gO (G_X1_line D l as h0 hF o) = "BlockPapers" := rfl
theorem hp_X1_line {D : va_G} {l : Launch} {as : List Value} {h0 hF : AH} {o : Out} (pc : Nat) : ∀ z ∈ tableOf (gHd (G_X1_line D l as h0 hF o)), covers z pc = false := hpN
def f_X1_line (x0 : Nat) (x1 : Int32) (h : AH) : Option ((Int32 ⊕ Nat) × AH) :=
  bd (gtR h 0 x0 0) fun v1 =>
  gd (isC h 1 v1) <|
  bdX (f_X2_roll v1 x1 h) (fun zq75 h4 =>
    outX h4 zq75
  ) fun r3 h4 =>
  bd2 (nwX h4 18 4 fsJ5) fun a7 h6 =>
  bd2 (f_J5_init a7 h6) fun r8 h9 =>
  gd (isC h9 18 a7) <|
  bd2 (f_J5_append a7 x1 h9) fun r12 h13 =>
  bd (aE h13 111) fun v15 =>
  gd (isC h13 18 r12) <|
  bd2 (f_J5_append_2 r12 v15 h13) fun r17 h18 =>
  gd (isC h18 9 r3) <|
  bd2 (f_X10_left r3 h18) fun r21 h22 =>
  gd (isC h22 18 r17) <|
  bd2 (f_J5_append r17 r21 h22) fun r25 h26 =>
  bd (aE h26 112) fun v28 =>
  gd (isC h26 18 r25) <|
  bd2 (f_J5_append_2 r25 v28 h26) fun r30 h31 =>
  bd (gtI h31 9 r3 4) fun v33 =>
  gd (isC h31 18 r30) <|
  bd2 (f_J5_append r30 v33 h31) fun r35 h36 =>
  bd (aE h36 113) fun v38 =>
  gd (isC h36 18 r35) <|
  bd2 (f_J5_append_2 r35 v38 h36) fun r40 h41 =>
  bd (gtI h41 9 r3 3) fun v43 =>
  gd (isC h41 18 r40) <|
  bd2 (f_J5_append r40 v43 h41) fun r45 h46 =>
  gd (isC h46 18 r45) <|
  bd2 (f_J5_toString r45 h46) fun r49 h50 =>
  bd2 (nwX h50 18 4 fsJ5) fun a53 h52 =>
  bd2 (f_J5_init_2 a53 r49 h52) fun r54 h55 =>
  gd (isC h55 9 r3) <|
  bd2 (f_X10_sign r3 h55) fun r58 h59 =>
  gd (isC h59 18 a53) <|
  bd2 (f_J5_append_4 a53 r58 h59) fun r62 h63 =>
  bd (stF h63 0 x0 3 (.ref r62)) fun h65 =>
  bd (gtR h65 0 x0 3) fun v66 =>
  if isC h65 19 v66 = true then (
    bd2 (f_J6_length v66 h65) fun r68 h69 =>
    some (.inl r68, h69)
  ) else (
  if isC h65 18 v66 = true then (
    bd2 (f_J5_length v66 h65) fun r72 h73 =>
    some (.inl r72, h73)
  ) else (
  none))
theorem v_X1_line (D : va_G) (l : Launch) (hl : l.stackTraces = false) (as : List Value) (h0 : AH) {r : (Int32 ⊕ Nat)} {hF : AH} (x0 : Nat) (x1 : Int32) (h : AH) (e : f_X1_line x0 x1 h = some (r, hF)) : V (G_X1_line D l as h0 hF ((oX oI) r)) h 0 [(0, .ref x0), (1, .int x1)] [] := by
  unfold f_X1_line at e
  refine v_aload_n (pc' := 1) hc_X1_line dX1_line_0 rfl rfl 0 rfl ?_
  refine v_gfR (pc' := 4) hc_X1_line ho_X1_line KX1 0 (Nat.le_of_ble_eq_true rfl) q235 (Or.inl rfl) dX1_line_1 rfl e (fun v1 _ e => ?_)
  refine v_iload_n (pc' := 5) hc_X1_line dX1_line_4 rfl rfl 1 rfl ?_
  obtain ⟨c2, e⟩ := gd_of e
  rcases bdX_of e with ⟨r3, h4, e5, e⟩ | ⟨zq75, h4, e5, e⟩
  · refine k_V (pc' := 8) (ci := 1) (n := 1) hc_X1_line ho_X1_line rfl c2 (w_X2_roll D l hl v1 x1 h e5) (wA_l q1620) q1286 (wA_l q1287) q76 q1288 hy_63 ⟨Nat.le_of_ble_eq_true rfl, Nat.le_of_ble_eq_true rfl⟩ rfl rfl (Nat.le_of_ble_eq_true rfl) dX1_line_5 rfl (kS ?_) kN
    refine v_astore_n (pc' := 9) (lv' := [(2, .ref r3), (0, .ref x0), (1, .int x1)]) hc_X1_line dX1_line_8 rfl rfl (Nat.le_of_ble_eq_true rfl) rfl ?_
    refine v_newX (pc' := 12) hc_X1_line ho_X1_line KJ5 q201 q202 q82 rfl dfJ5 dX1_line_9 rfl e (fun a7 h6 _ e => ?_)
    refine v_dup (pc' := 13) hc_X1_line dX1_line_12 rfl rfl ?_
    obtain ⟨r8, h9, e10, e⟩ := bd2_of e
    refine k_I (pc' := 16) (n := 0) hc_X1_line ho_X1_line (w_J5_init D l hl a7 h6 e10) (wA_l q203) q204 q82 q205 rfl hy_6 ⟨Nat.le_of_ble_eq_true rfl, Nat.le_of_ble_eq_true rfl⟩ rfl rfl (Nat.le_of_ble_eq_true rfl) dX1_line_13 rfl (kU ?_) kN
    refine v_iload_n (pc' := 17) hc_X1_line dX1_line_16 rfl rfl 2 rfl ?_
    obtain ⟨c11, e⟩ := gd_of e
    obtain ⟨r12, h13, e14, e⟩ := bd2_of e
    refine k_V (pc' := 20) (ci := 18) (n := 1) hc_X1_line ho_X1_line rfl c11 (w_J5_append D l hl a7 x1 h9 e14) (wA_l q1734) q594 (wA_l q595) q82 q596 hy_230 ⟨Nat.le_of_ble_eq_true rfl, Nat.le_of_ble_eq_true rfl⟩ rfl rfl (Nat.le_of_ble_eq_true rfl) dX1_line_17 rfl (kS ?_) kN
    refine v_ldcwS (pc' := 23) (tx := ": ") (j := 111) hc_X1_line ho_X1_line (by decide +kernel) dX1_line_20 rfl e (fun v15 _ e => ?_)
    obtain ⟨c16, e⟩ := gd_of e
    obtain ⟨r17, h18, e19, e⟩ := bd2_of e
    refine k_V (pc' := 26) (ci := 18) (n := 1) hc_X1_line ho_X1_line rfl c16 (w_J5_append_2 D l hl r12 v15 h13 e19) (wA_l q1736) q683 (wA_l q684) q82 q685 hy_235 ⟨Nat.le_of_ble_eq_true rfl, Nat.le_of_ble_eq_true rfl⟩ rfl rfl (Nat.le_of_ble_eq_true rfl) dX1_line_23 rfl (kS ?_) kN
    refine v_aload_n (pc' := 27) hc_X1_line dX1_line_26 rfl rfl 0 rfl ?_
    obtain ⟨c20, e⟩ := gd_of e
    obtain ⟨r21, h22, e23, e⟩ := bd2_of e
    refine k_V (pc' := 30) (ci := 9) (n := 0) hc_X1_line ho_X1_line rfl c20 (w_X10_left D l hl r3 h18 e23) (wA_l q1621) q518 (wA_l q519) q109 q520 hy_80 ⟨Nat.le_of_ble_eq_true rfl, Nat.le_of_ble_eq_true rfl⟩ rfl rfl (Nat.le_of_ble_eq_true rfl) dX1_line_27 rfl (kS ?_) kN
    obtain ⟨c24, e⟩ := gd_of e
    obtain ⟨r25, h26, e27, e⟩ := bd2_of e
    refine k_V (pc' := 33) (ci := 18) (n := 1) hc_X1_line ho_X1_line rfl c24 (w_J5_append D l hl r17 r21 h22 e27) (wA_l q1734) q594 (wA_l q595) q82 q596 hy_230 ⟨Nat.le_of_ble_eq_true rfl, Nat.le_of_ble_eq_true rfl⟩ rfl rfl (Nat.le_of_ble_eq_true rfl) dX1_line_30 rfl (kS ?_) kN
    refine v_ldcwS (pc' := 36) (tx := " of ") (j := 112) hc_X1_line ho_X1_line (by decide +kernel) dX1_line_33 rfl e (fun v28 _ e => ?_)
    obtain ⟨c29, e⟩ := gd_of e
    obtain ⟨r30, h31, e32, e⟩ := bd2_of e
    refine k_V (pc' := 39) (ci := 18) (n := 1) hc_X1_line ho_X1_line rfl c29 (w_J5_append_2 D l hl r25 v28 h26 e32) (wA_l q1736) q683 (wA_l q684) q82 q685 hy_235 ⟨Nat.le_of_ble_eq_true rfl, Nat.le_of_ble_eq_true rfl⟩ rfl rfl (Nat.le_of_ble_eq_true rfl) dX1_line_36 rfl (kS ?_) kN
    refine v_aload_n (pc' := 40) hc_X1_line dX1_line_39 rfl rfl 0 rfl ?_
    refine v_gnI (pc' := 43) hc_X1_line ho_X1_line KX10 4 (Nat.le_of_ble_eq_true rfl) q1253 rfl dX1_line_40 rfl e (fun v33 _ e => ?_)
    obtain ⟨c34, e⟩ := gd_of e
    obtain ⟨r35, h36, e37, e⟩ := bd2_of e
    refine k_V (pc' := 46) (ci := 18) (n := 1) hc_X1_line ho_X1_line rfl c34 (w_J5_append D l hl r30 v33 h31 e37) (wA_l q1734) q594 (wA_l q595) q82 q596 hy_230 ⟨Nat.le_of_ble_eq_true rfl, Nat.le_of_ble_eq_true rfl⟩ rfl rfl (Nat.le_of_ble_eq_true rfl) dX1_line_43 rfl (kS ?_) kN
    refine v_ldcwS (pc' := 49) (tx := ", shade ") (j := 113) hc_X1_line ho_X1_line (by decide +kernel) dX1_line_46 rfl e (fun v38 _ e => ?_)
    obtain ⟨c39, e⟩ := gd_of e
    obtain ⟨r40, h41, e42, e⟩ := bd2_of e
    refine k_V (pc' := 52) (ci := 18) (n := 1) hc_X1_line ho_X1_line rfl c39 (w_J5_append_2 D l hl r35 v38 h36 e42) (wA_l q1736) q683 (wA_l q684) q82 q685 hy_235 ⟨Nat.le_of_ble_eq_true rfl, Nat.le_of_ble_eq_true rfl⟩ rfl rfl (Nat.le_of_ble_eq_true rfl) dX1_line_49 rfl (kS ?_) kN
    refine v_aload_n (pc' := 53) hc_X1_line dX1_line_52 rfl rfl 0 rfl ?_
    refine v_gnI (pc' := 56) hc_X1_line ho_X1_line KX10 3 (Nat.le_of_ble_eq_true rfl) q1250 rfl dX1_line_53 rfl e (fun v43 _ e => ?_)
    obtain ⟨c44, e⟩ := gd_of e
    obtain ⟨r45, h46, e47, e⟩ := bd2_of e
    refine k_V (pc' := 59) (ci := 18) (n := 1) hc_X1_line ho_X1_line rfl c44 (w_J5_append D l hl r40 v43 h41 e47) (wA_l q1734) q594 (wA_l q595) q82 q596 hy_230 ⟨Nat.le_of_ble_eq_true rfl, Nat.le_of_ble_eq_true rfl⟩ rfl rfl (Nat.le_of_ble_eq_true rfl) dX1_line_56 rfl (kS ?_) kN
    obtain ⟨c48, e⟩ := gd_of e
    obtain ⟨r49, h50, e51, e⟩ := bd2_of e
    refine k_V (pc' := 62) (ci := 18) (n := 0) hc_X1_line ho_X1_line rfl c48 (w_J5_toString D l hl r45 h46 e51) (wA_l q1739) q740 (wA_l q741) q82 q742 hy_243 ⟨Nat.le_of_ble_eq_true rfl, Nat.le_of_ble_eq_true rfl⟩ rfl rfl (Nat.le_of_ble_eq_true rfl) dX1_line_59 rfl (kS ?_) kN
    refine v_astore_n (pc' := 63) (lv' := [(3, .ref r49), (2, .ref r3), (0, .ref x0), (1, .int x1)]) hc_X1_line dX1_line_62 rfl rfl (Nat.le_of_ble_eq_true rfl) rfl ?_
    refine v_aload_n (pc' := 64) hc_X1_line dX1_line_63 rfl rfl 2 rfl ?_
    refine v_newX (pc' := 67) hc_X1_line ho_X1_line KJ5 q201 q202 q82 rfl dfJ5 dX1_line_64 rfl e (fun a53 h52 _ e => ?_)
    refine v_dup (pc' := 68) hc_X1_line dX1_line_67 rfl rfl ?_
    refine v_aload_n (pc' := 69) hc_X1_line dX1_line_68 rfl rfl 0 rfl ?_
    obtain ⟨r54, h55, e56, e⟩ := bd2_of e
    refine k_I (pc' := 72) (n := 1) hc_X1_line ho_X1_line (w_J5_init_2 D l hl a53 r49 h52 e56) (wA_l q1740) q1741 q82 q1742 rfl hy_247 ⟨Nat.le_of_ble_eq_true rfl, Nat.le_of_ble_eq_true rfl⟩ rfl rfl (Nat.le_of_ble_eq_true rfl) dX1_line_69 rfl (kU ?_) kN
    refine v_aload_n (pc' := 73) hc_X1_line dX1_line_72 rfl rfl 1 rfl ?_
    obtain ⟨c57, e⟩ := gd_of e
    obtain ⟨r58, h59, e60, e⟩ := bd2_of e
    refine k_V (pc' := 76) (ci := 9) (n := 0) hc_X1_line ho_X1_line rfl c57 (w_X10_sign D l hl r3 h55 e60) (wA_l q1751) q1752 (wA_l q1753) q109 q1754 hy_248 ⟨Nat.le_of_ble_eq_true rfl, Nat.le_of_ble_eq_true rfl⟩ rfl rfl (Nat.le_of_ble_eq_true rfl) dX1_line_73 rfl (kS ?_) kN
    obtain ⟨c61, e⟩ := gd_of e
    obtain ⟨r62, h63, e64, e⟩ := bd2_of e
    refine k_V (pc' := 79) (ci := 18) (n := 1) hc_X1_line ho_X1_line rfl c61 (w_J5_append_4 D l hl a53 r58 h59 e64) (wA_l q1758) q1759 (wA_l q1760) q82 q1761 hy_250 ⟨Nat.le_of_ble_eq_true rfl, Nat.le_of_ble_eq_true rfl⟩ rfl rfl (Nat.le_of_ble_eq_true rfl) dX1_line_76 rfl (kS ?_) kN
    refine v_pf (pc' := 82) hc_X1_line ho_X1_line KX1 3 (Nat.le_of_ble_eq_true rfl) q239 (Or.inl rfl) rfl dX1_line_79 rfl rfl rfl e (fun h65 _ e => ?_)
    refine v_aload_n (pc' := 83) hc_X1_line dX1_line_82 rfl rfl 2 rfl ?_
    refine v_gfR (pc' := 86) hc_X1_line ho_X1_line KX1 3 (Nat.le_of_ble_eq_true rfl) q239 (Or.inl rfl) dX1_line_83 rfl e (fun v66 _ e => ?_)
    rcases ite_cs e with ⟨c67, e⟩ | ⟨_, e⟩
    · obtain ⟨r68, h69, e70, e⟩ := bd2_of e
      refine k_F (pc' := 91) (x := ⟨"java/lang/CharSequence", "length", "()I"⟩) (y := ⟨"java/lang/String", "length", "()I"⟩) (ci := 19) (n := 0) hc_X1_line ho_X1_line rfl c67 (w_J6_length D l hl v66 h65 e70) (wA_l q1877) (by decide +kernel) q1793 q697 q83 q699 hy_251 ⟨Nat.le_of_ble_eq_true rfl, Nat.le_of_ble_eq_true rfl⟩ rfl rfl (Nat.le_of_ble_eq_true rfl) dX1_line_86 rfl (kS ?_) kN
      obtain ⟨rfl, rfl⟩ := ret_of e
      exact v_iret hc_X1_line rfl dX1_line_91 rfl rfl
    rcases ite_cs e with ⟨c71, e⟩ | ⟨_, e⟩
    · obtain ⟨r72, h73, e74, e⟩ := bd2_of e
      refine k_F (pc' := 91) (x := ⟨"java/lang/CharSequence", "length", "()I"⟩) (y := ⟨"java/lang/StringBuilder", "length", "()I"⟩) (ci := 18) (n := 0) hc_X1_line ho_X1_line rfl c71 (w_J5_length D l hl v66 h65 e74) (wA_l q1877) (by decide +kernel) q1797 q534 q82 q536 hy_251 ⟨Nat.le_of_ble_eq_true rfl, Nat.le_of_ble_eq_true rfl⟩ rfl rfl (Nat.le_of_ble_eq_true rfl) dX1_line_86 rfl (kS ?_) kN
      obtain ⟨rfl, rfl⟩ := ret_of e
      exact v_iret hc_X1_line rfl dX1_line_91 rfl rfl
    exact nomatch e
  · refine k_V (pc' := 8) (ci := 1) (n := 1) hc_X1_line ho_X1_line rfl c2 (w_X2_roll D l hl v1 x1 h e5) (wA_l q1620) q1286 (wA_l q1287) q76 q1288 hy_63 ⟨Nat.le_of_ble_eq_true rfl, Nat.le_of_ble_eq_true rfl⟩ rfl rfl (Nat.le_of_ble_eq_true rfl) dX1_line_5 rfl kM (kX ?_)
    exact v_outA (hp_X1_line _) rfl rfl e
theorem w_X1_line (D : va_G) (l : Launch) (hl : l.stackTraces = false) (x0 : Nat) (x1 : Int32) (h : AH) {r : (Int32 ⊕ Nat)} {hF : AH} (e : f_X1_line x0 x1 h = some (r, hF)) : MetV D l yX1_line (Cond.code yX1_line cX1_line 4 (Option.some .int)) 10 248 [.ref x0, .int x1] h hF ((oX oI) r) :=
  met_ofF (by decide +kernel) hl (Nat.le_of_ble_eq_true rfl) rfl (v_X1_line D l hl [.ref x0, .int x1] h x0 x1 h e)
/-! BlockPapers.character(I)C  -/
abbrev G_X1_character (D : va_G) (l : Launch) (as : List Value) (h0 hF : AH) (o : Out) : CT := (D, l, (yX1_character.cls, yX1_character, cX1_character, 2, (Option.some .char), 7, 154, []), as, h0, hF, o)
theorem hc_X1_character {D : va_G} {l : Launch} {as : List Value} {h0 hF : AH} {o : Out} : gC (G_X1_character D l as h0 hF o) = cX1_character := rfl
theorem ho_X1_character {D : va_G} {l : Launch} {as : List Value} {h0 hF : AH} {o : Out} : gO (G_X1_character D l as h0 hF o) = "BlockPapers" := rfl
theorem hp_X1_character {D : va_G} {l : Launch} {as : List Value} {h0 hF : AH} {o : Out} (pc : Nat) : ∀ z ∈ tableOf (gHd (G_X1_character D l as h0 hF o)), covers z pc = false := hpN
def f_X1_character (x0 : Nat) (x1 : Int32) (h : AH) : Option ((Int32 ⊕ Nat) × AH) :=
  bd (gtR h 0 x0 3) fun v1 =>
  if isC h 19 v1 = true then (
    bd2 (f_J6_length v1 h) fun r3 h4 =>
    bd2 (f_X1_inRange x1 (0 : Int32) (r3 - (1 : Int32)) h4) fun r6 h7 =>
    bdX (f_X1_requireIndex r6 h7) (fun zq23 h10 =>
      outX h10 zq23
    ) fun r9 h10 =>
    bd (gtR h10 0 x0 3) fun v12 =>
    if isC h10 19 v12 = true then (
      bd2 (f_J6_charAt v12 x1 h10) fun r14 h15 =>
      gd (nrw .char r14) <|
      some (.inl r14, h15)
    ) else (
    if isC h10 18 v12 = true then (
      bd2 (f_J5_charAt v12 x1 h10) fun r19 h20 =>
      gd (nrw .char r19) <|
      some (.inl r19, h20)
    ) else (
    none))
  ) else (
  if isC h 18 v1 = true then (
    bd2 (f_J5_length v1 h) fun r25 h26 =>
    bd2 (f_X1_inRange x1 (0 : Int32) (r25 - (1 : Int32)) h26) fun r28 h29 =>
    bdX (f_X1_requireIndex r28 h29) (fun zq45 h32 =>
      outX h32 zq45
    ) fun r31 h32 =>
    bd (gtR h32 0 x0 3) fun v34 =>
    if isC h32 19 v34 = true then (
      bd2 (f_J6_charAt v34 x1 h32) fun r36 h37 =>
      gd (nrw .char r36) <|
      some (.inl r36, h37)
    ) else (
    if isC h32 18 v34 = true then (
      bd2 (f_J5_charAt v34 x1 h32) fun r41 h42 =>
      gd (nrw .char r41) <|
      some (.inl r41, h42)
    ) else (
    none))
  ) else (
  none))
theorem v_X1_character (D : va_G) (l : Launch) (hl : l.stackTraces = false) (as : List Value) (h0 : AH) {r : (Int32 ⊕ Nat)} {hF : AH} (x0 : Nat) (x1 : Int32) (h : AH) (e : f_X1_character x0 x1 h = some (r, hF)) : V (G_X1_character D l as h0 hF ((oX oI) r)) h 0 [(0, .ref x0), (1, .int x1)] [] := by
  unfold f_X1_character at e
  refine v_iload_n (pc' := 1) hc_X1_character dX1_character_0 rfl rfl 1 rfl ?_
  refine v_iconst (pc' := 2) (v := 0) hc_X1_character dX1_character_1 rfl rfl ?_
  refine v_aload_n (pc' := 3) hc_X1_character dX1_character_2 rfl rfl 0 rfl ?_
  refine v_gfR (pc' := 6) hc_X1_character ho_X1_character KX1 3 (Nat.le_of_ble_eq_true rfl) q239 (Or.inl rfl) dX1_character_3 rfl e (fun v1 _ e => ?_)
  rcases ite_cs e with ⟨c2, e⟩ | ⟨_, e⟩
  · obtain ⟨r3, h4, e5, e⟩ := bd2_of e
    refine k_F (pc' := 11) (x := ⟨"java/lang/CharSequence", "length", "()I"⟩) (y := ⟨"java/lang/String", "length", "()I"⟩) (ci := 19) (n := 0) hc_X1_character ho_X1_character rfl c2 (w_J6_length D l hl v1 h e5) (wA_l q1877) (by decide +kernel) q1793 q697 q83 q699 hy_251 ⟨Nat.le_of_ble_eq_true rfl, Nat.le_of_ble_eq_true rfl⟩ rfl rfl (Nat.le_of_ble_eq_true rfl) dX1_character_6 rfl (kS ?_) kN
    refine v_iconst (pc' := 12) (v := 1) hc_X1_character dX1_character_11 rfl rfl ?_
    refine v_isub (pc' := 13) hc_X1_character dX1_character_12 rfl ?_
    obtain ⟨r6, h7, e8, e⟩ := bd2_of e
    refine k_S (pc' := 16) (n := 3) hc_X1_character ho_X1_character (w_X1_inRange D l hl x1 (0 : Int32) (r3 - (1 : Int32)) h4 e8) (wA_l q266) q267 q75 q268 hy_39 ⟨Nat.le_of_ble_eq_true rfl, Nat.le_of_ble_eq_true rfl⟩ rfl rfl (Nat.le_of_ble_eq_true rfl) dX1_character_13 rfl (kS ?_) kN
    rcases bdX_of e with ⟨r9, h10, e11, e⟩ | ⟨zq23, h10, e11, e⟩
    · refine k_S (pc' := 19) (n := 1) hc_X1_character ho_X1_character (w_X1_requireIndex D l hl r6 h7 e11) (wA_l q1885) q1152 q75 q1153 hy_48 ⟨Nat.le_of_ble_eq_true rfl, Nat.le_of_ble_eq_true rfl⟩ rfl rfl (Nat.le_of_ble_eq_true rfl) dX1_character_16 rfl (kU ?_) kN
      refine v_aload_n (pc' := 20) hc_X1_character dX1_character_19 rfl rfl 0 rfl ?_
      refine v_gfR (pc' := 23) hc_X1_character ho_X1_character KX1 3 (Nat.le_of_ble_eq_true rfl) q239 (Or.inl rfl) dX1_character_20 rfl e (fun v12 _ e => ?_)
      refine v_iload_n (pc' := 24) hc_X1_character dX1_character_23 rfl rfl 1 rfl ?_
      rcases ite_cs e with ⟨c13, e⟩ | ⟨_, e⟩
      · obtain ⟨r14, h15, e16, e⟩ := bd2_of e
        refine k_F (pc' := 29) (x := ⟨"java/lang/CharSequence", "charAt", "(I)C"⟩) (y := ⟨"java/lang/String", "charAt", "(I)C"⟩) (ci := 19) (n := 1) hc_X1_character ho_X1_character rfl c13 (w_J6_charAt D l hl v12 x1 h10 e16) (wA_l q1887) (by decide +kernel) q1853 q1826 q83 q1828 hy_265 ⟨Nat.le_of_ble_eq_true rfl, Nat.le_of_ble_eq_true rfl⟩ rfl rfl (Nat.le_of_ble_eq_true rfl) dX1_character_24 rfl (kS ?_) kN
        obtain ⟨c17, e⟩ := gd_of e
        obtain ⟨rfl, rfl⟩ := ret_of e
        exact v_zret hc_X1_character rfl (nrw_of c17) dX1_character_29 rfl rfl
      rcases ite_cs e with ⟨c18, e⟩ | ⟨_, e⟩
      · obtain ⟨r19, h20, e21, e⟩ := bd2_of e
        refine k_F (pc' := 29) (x := ⟨"java/lang/CharSequence", "charAt", "(I)C"⟩) (y := ⟨"java/lang/StringBuilder", "charAt", "(I)C"⟩) (ci := 18) (n := 1) hc_X1_character ho_X1_character rfl c18 (w_J5_charAt D l hl v12 x1 h10 e21) (wA_l q1887) (by decide +kernel) q1856 q1858 q82 q1860 hy_265 ⟨Nat.le_of_ble_eq_true rfl, Nat.le_of_ble_eq_true rfl⟩ rfl rfl (Nat.le_of_ble_eq_true rfl) dX1_character_24 rfl (kS ?_) kN
        obtain ⟨c22, e⟩ := gd_of e
        obtain ⟨rfl, rfl⟩ := ret_of e
        exact v_zret hc_X1_character rfl (nrw_of c22) dX1_character_29 rfl rfl
      exact nomatch e
    · refine k_S (pc' := 19) (n := 1) hc_X1_character ho_X1_character (w_X1_requireIndex D l hl r6 h7 e11) (wA_l q1885) q1152 q75 q1153 hy_48 ⟨Nat.le_of_ble_eq_true rfl, Nat.le_of_ble_eq_true rfl⟩ rfl rfl (Nat.le_of_ble_eq_true rfl) dX1_character_16 rfl kM (kX ?_)
      exact v_outA (hp_X1_character _) rfl rfl e
  rcases ite_cs e with ⟨c24, e⟩ | ⟨_, e⟩
  · obtain ⟨r25, h26, e27, e⟩ := bd2_of e
    refine k_F (pc' := 11) (x := ⟨"java/lang/CharSequence", "length", "()I"⟩) (y := ⟨"java/lang/StringBuilder", "length", "()I"⟩) (ci := 18) (n := 0) hc_X1_character ho_X1_character rfl c24 (w_J5_length D l hl v1 h e27) (wA_l q1877) (by decide +kernel) q1797 q534 q82 q536 hy_251 ⟨Nat.le_of_ble_eq_true rfl, Nat.le_of_ble_eq_true rfl⟩ rfl rfl (Nat.le_of_ble_eq_true rfl) dX1_character_6 rfl (kS ?_) kN
    refine v_iconst (pc' := 12) (v := 1) hc_X1_character dX1_character_11 rfl rfl ?_
    refine v_isub (pc' := 13) hc_X1_character dX1_character_12 rfl ?_
    obtain ⟨r28, h29, e30, e⟩ := bd2_of e
    refine k_S (pc' := 16) (n := 3) hc_X1_character ho_X1_character (w_X1_inRange D l hl x1 (0 : Int32) (r25 - (1 : Int32)) h26 e30) (wA_l q266) q267 q75 q268 hy_39 ⟨Nat.le_of_ble_eq_true rfl, Nat.le_of_ble_eq_true rfl⟩ rfl rfl (Nat.le_of_ble_eq_true rfl) dX1_character_13 rfl (kS ?_) kN
    rcases bdX_of e with ⟨r31, h32, e33, e⟩ | ⟨zq45, h32, e33, e⟩
    · refine k_S (pc' := 19) (n := 1) hc_X1_character ho_X1_character (w_X1_requireIndex D l hl r28 h29 e33) (wA_l q1885) q1152 q75 q1153 hy_48 ⟨Nat.le_of_ble_eq_true rfl, Nat.le_of_ble_eq_true rfl⟩ rfl rfl (Nat.le_of_ble_eq_true rfl) dX1_character_16 rfl (kU ?_) kN
      refine v_aload_n (pc' := 20) hc_X1_character dX1_character_19 rfl rfl 0 rfl ?_
      refine v_gfR (pc' := 23) hc_X1_character ho_X1_character KX1 3 (Nat.le_of_ble_eq_true rfl) q239 (Or.inl rfl) dX1_character_20 rfl e (fun v34 _ e => ?_)
      refine v_iload_n (pc' := 24) hc_X1_character dX1_character_23 rfl rfl 1 rfl ?_
      rcases ite_cs e with ⟨c35, e⟩ | ⟨_, e⟩
      · obtain ⟨r36, h37, e38, e⟩ := bd2_of e
        refine k_F (pc' := 29) (x := ⟨"java/lang/CharSequence", "charAt", "(I)C"⟩) (y := ⟨"java/lang/String", "charAt", "(I)C"⟩) (ci := 19) (n := 1) hc_X1_character ho_X1_character rfl c35 (w_J6_charAt D l hl v34 x1 h32 e38) (wA_l q1887) (by decide +kernel) q1853 q1826 q83 q1828 hy_265 ⟨Nat.le_of_ble_eq_true rfl, Nat.le_of_ble_eq_true rfl⟩ rfl rfl (Nat.le_of_ble_eq_true rfl) dX1_character_24 rfl (kS ?_) kN
        obtain ⟨c39, e⟩ := gd_of e
        obtain ⟨rfl, rfl⟩ := ret_of e
        exact v_zret hc_X1_character rfl (nrw_of c39) dX1_character_29 rfl rfl
      rcases ite_cs e with ⟨c40, e⟩ | ⟨_, e⟩
      · obtain ⟨r41, h42, e43, e⟩ := bd2_of e
        refine k_F (pc' := 29) (x := ⟨"java/lang/CharSequence", "charAt", "(I)C"⟩) (y := ⟨"java/lang/StringBuilder", "charAt", "(I)C"⟩) (ci := 18) (n := 1) hc_X1_character ho_X1_character rfl c40 (w_J5_charAt D l hl v34 x1 h32 e43) (wA_l q1887) (by decide +kernel) q1856 q1858 q82 q1860 hy_265 ⟨Nat.le_of_ble_eq_true rfl, Nat.le_of_ble_eq_true rfl⟩ rfl rfl (Nat.le_of_ble_eq_true rfl) dX1_character_24 rfl (kS ?_) kN
        obtain ⟨c44, e⟩ := gd_of e
        obtain ⟨rfl, rfl⟩ := ret_of e
        exact v_zret hc_X1_character rfl (nrw_of c44) dX1_character_29 rfl rfl
      exact nomatch e
    · refine k_S (pc' := 19) (n := 1) hc_X1_character ho_X1_character (w_X1_requireIndex D l hl r28 h29 e33) (wA_l q1885) q1152 q75 q1153 hy_48 ⟨Nat.le_of_ble_eq_true rfl, Nat.le_of_ble_eq_true rfl⟩ rfl rfl (Nat.le_of_ble_eq_true rfl) dX1_character_16 rfl kM (kX ?_)
      exact v_outA (hp_X1_character _) rfl rfl e
  exact nomatch e
theorem w_X1_character (D : va_G) (l : Launch) (hl : l.stackTraces = false) (x0 : Nat) (x1 : Int32) (h : AH) {r : (Int32 ⊕ Nat)} {hF : AH} (e : f_X1_character x0 x1 h = some (r, hF)) : MetV D l yX1_character (Cond.code yX1_character cX1_character 2 (Option.some .char)) 7 154 [.ref x0, .int x1] h hF ((oX oI) r) :=
  met_ofF (by decide +kernel) hl (Nat.le_of_ble_eq_true rfl) rfl (v_X1_character D l hl [.ref x0, .int x1] h x0 x1 h e)
/-! BlockPapers.back()I  -/
abbrev G_X1_back (D : va_G) (l : Launch) (as : List Value) (h0 hF : AH) (o : Out) : CT := (D, l, (yX1_back.cls, yX1_back, cX1_back, 4, (Option.some .int), 3, 90, []), as, h0, hF, o)
theorem hc_X1_back {D : va_G} {l : Launch} {as : List Value} {h0 hF : AH} {o : Out} : gC (G_X1_back D l as h0 hF o) = cX1_back := rfl
theorem ho_X1_back {D : va_G} {l : Launch} {as : List Value} {h0 hF : AH} {o : Out} : gO (G_X1_back D l as h0 hF o) = "BlockPapers" := rfl
theorem hp_X1_back {D : va_G} {l : Launch} {as : List Value} {h0 hF : AH} {o : Out} (pc : Nat) : ∀ z ∈ tableOf (gHd (G_X1_back D l as h0 hF o)), covers z pc = false := hpN
def fb_X1_back_l15 (rec : Int32 → Nat → AH → Option (Int32 × AH)) (x1 : Int32) (x2 : Nat) (h : AH) : Option (Int32 × AH) :=
  gd (isC h 20 x2) <|
  bd2 (f_J19_hasNext x2 h) fun r2 h3 =>
  if r2 = 0 then (
    some (x1, h3)
  ) else (
    gd (isC h3 20 x2) <|
    bd2 (f_J19_next x2 h3) fun r6 h7 =>
    gd (isC h7 9 r6) <|
    bd (gtI h7 9 r6 6) fun v10 =>
    if v10 = 0 then (
      rec (x1 + (0 : Int32)) x2 h7
    ) else (
      rec (x1 + (1 : Int32)) x2 h7
    )
  )
def f_X1_back_l15 : Nat → Int32 → Nat → AH → Option (Int32 × AH)
  | 0 => fun _ _ _ => none
  | n + 1 => fb_X1_back_l15 (f_X1_back_l15 n) 
theorem w_X1_back_l15 (D : va_G) (l : Launch) (hl : l.stackTraces = false) (as : List Value) (h0 : AH) {r : Int32} {hF : AH} : ∀ (n : Nat) (x1 : Int32) (x2 : Nat) (h : AH), f_X1_back_l15 n x1 x2 h = some (r, hF) → V (G_X1_back D l as h0 hF (oI r)) h 15 [(1, .int x1), (2, .ref x2)] [] := by
  intro n; induction n with
  | zero => intro x1 x2 h e; exact absurd (show (none : Option (Int32 × AH)) = some _ from e) (fun z => nomatch z)
  | succ n IH =>
    intro x1 x2 h e
    have e : fb_X1_back_l15 (f_X1_back_l15 n) x1 x2 h = some (r, hF) := e
    unfold fb_X1_back_l15 at e
    refine v_aload_n (pc' := 16) hc_X1_back dX1_back_15 rfl rfl 1 rfl ?_
    obtain ⟨c1, e⟩ := gd_of e
    obtain ⟨r2, h3, e4, e⟩ := bd2_of e
    refine k_F (pc' := 21) (x := ⟨"java/util/Iterator", "hasNext", "()Z"⟩) (y := ⟨"java/util/ArrayList$Itr", "hasNext", "()Z"⟩) (ci := 20) (n := 0) hc_X1_back ho_X1_back rfl c1 (w_J19_hasNext D l hl x2 h e4) (wA_l q386) (by decide +kernel) q418 q420 q101 q422 hy_109 ⟨Nat.le_of_ble_eq_true rfl, Nat.le_of_ble_eq_true rfl⟩ rfl rfl (Nat.le_of_ble_eq_true rfl) dX1_back_16 rfl (kS ?_) kN
    refine v_if_eq (pt := 52) (pf := 24) hc_X1_back dX1_back_21 rfl rfl e (fun _ e => ?_) (fun _ e => ?_)
    · refine v_iload_n (pc' := 53) hc_X1_back dX1_back_52 rfl rfl 0 rfl ?_
      obtain ⟨rfl, rfl⟩ := ret_of e
      exact v_iret hc_X1_back rfl dX1_back_53 rfl rfl
    · refine v_aload_n (pc' := 25) hc_X1_back dX1_back_24 rfl rfl 1 rfl ?_
      obtain ⟨c5, e⟩ := gd_of e
      obtain ⟨r6, h7, e8, e⟩ := bd2_of e
      refine k_F (pc' := 30) (x := ⟨"java/util/Iterator", "next", "()Ljava/lang/Object;"⟩) (y := ⟨"java/util/ArrayList$Itr", "next", "()Ljava/lang/Object;"⟩) (ci := 20) (n := 0) hc_X1_back ho_X1_back rfl c5 (w_J19_next D l hl x2 h3 e8) (wA_l q424) (by decide +kernel) q456 q458 q101 q460 hy_111 ⟨Nat.le_of_ble_eq_true rfl, Nat.le_of_ble_eq_true rfl⟩ rfl rfl (Nat.le_of_ble_eq_true rfl) dX1_back_25 rfl (kS ?_) kN
      obtain ⟨c9, e⟩ := gd_of e
      refine v_cast (pc' := 33) (ci := 9) hc_X1_back ho_X1_back rfl q467 (Or.inl rfl) dX1_back_30 rfl c9 ?_
      refine v_astore_n (pc' := 34) (lv' := [(3, .ref r6), (1, .int x1), (2, .ref x2)]) hc_X1_back dX1_back_33 rfl rfl (Nat.le_of_ble_eq_true rfl) rfl ?_
      refine v_iload_n (pc' := 35) hc_X1_back dX1_back_34 rfl rfl 1 rfl ?_
      refine v_aload_n (pc' := 36) hc_X1_back dX1_back_35 rfl rfl 0 rfl ?_
      refine v_gnI (pc' := 39) hc_X1_back ho_X1_back KX10 6 (Nat.le_of_ble_eq_true rfl) q1260 rfl dX1_back_36 rfl e (fun v10 _ e => ?_)
      refine v_if_eq (pt := 46) (pf := 42) hc_X1_back dX1_back_39 rfl rfl e (fun _ e => ?_) (fun _ e => ?_)
      · refine v_iconst (pc' := 47) (v := 0) hc_X1_back dX1_back_46 rfl rfl ?_
        refine v_iadd (pc' := 48) hc_X1_back dX1_back_47 rfl ?_
        refine v_istore_n (pc' := 49) (lv' := [(1, .int (x1 + (0 : Int32))), (3, .ref r6), (2, .ref x2)]) hc_X1_back dX1_back_48 rfl rfl (Nat.le_of_ble_eq_true rfl) rfl ?_
        refine v_goto (pt := 15) hc_X1_back dX1_back_49 rfl ?_
        refine v_pick [0, 2] rfl ?_
        exact IH (x1 + (0 : Int32)) x2 h7 e
      · refine v_iconst (pc' := 43) (v := 1) hc_X1_back dX1_back_42 rfl rfl ?_
        refine v_goto (pt := 47) hc_X1_back dX1_back_43 rfl ?_
        refine v_iadd (pc' := 48) hc_X1_back dX1_back_47 rfl ?_
        refine v_istore_n (pc' := 49) (lv' := [(1, .int (x1 + (1 : Int32))), (3, .ref r6), (2, .ref x2)]) hc_X1_back dX1_back_48 rfl rfl (Nat.le_of_ble_eq_true rfl) rfl ?_
        refine v_goto (pt := 15) hc_X1_back dX1_back_49 rfl ?_
        refine v_pick [0, 2] rfl ?_
        exact IH (x1 + (1 : Int32)) x2 h7 e
def f_X1_back (x0 : Nat) (h : AH) : Option (Int32 × AH) :=
  bd (gtR h 0 x0 0) fun v1 =>
  bd (gtR h 1 v1 2) fun v2 =>
  gd (isC h 16 v2) <|
  bd2 (f_J2_iterator v2 h) fun r4 h5 =>
  f_X1_back_l15 NN (0 : Int32) r4 h5
theorem v_X1_back (D : va_G) (l : Launch) (hl : l.stackTraces = false) (as : List Value) (h0 : AH) {r : Int32} {hF : AH} (x0 : Nat) (h : AH) (e : f_X1_back x0 h = some (r, hF)) : V (G_X1_back D l as h0 hF (oI r)) h 0 [(0, .ref x0)] [] := by
  unfold f_X1_back at e
  refine v_iconst (pc' := 1) (v := 0) hc_X1_back dX1_back_0 rfl rfl ?_
  refine v_istore_n (pc' := 2) (lv' := [(1, .int (0 : Int32)), (0, .ref x0)]) hc_X1_back dX1_back_1 rfl rfl (Nat.le_of_ble_eq_true rfl) rfl ?_
  refine v_aload_n (pc' := 3) hc_X1_back dX1_back_2 rfl rfl 1 rfl ?_
  refine v_gfR (pc' := 6) hc_X1_back ho_X1_back KX1 0 (Nat.le_of_ble_eq_true rfl) q235 (Or.inl rfl) dX1_back_3 rfl e (fun v1 _ e => ?_)
  refine v_gnR (pc' := 9) hc_X1_back ho_X1_back KX2 2 (Nat.le_of_ble_eq_true rfl) q170 rfl dX1_back_6 rfl e (fun v2 _ e => ?_)
  obtain ⟨c3, e⟩ := gd_of e
  obtain ⟨r4, h5, e6, e⟩ := bd2_of e
  refine k_F (pc' := 14) (x := ⟨"java/util/List", "iterator", "()Ljava/util/Iterator;"⟩) (y := ⟨"java/util/ArrayList", "iterator", "()Ljava/util/Iterator;"⟩) (ci := 16) (n := 0) hc_X1_back ho_X1_back rfl c3 (w_J2_iterator D l hl v2 h e6) (wA_l q358) (by decide +kernel) q361 q363 q79 q365 hy_108 ⟨Nat.le_of_ble_eq_true rfl, Nat.le_of_ble_eq_true rfl⟩ rfl rfl (Nat.le_of_ble_eq_true rfl) dX1_back_9 rfl (kS ?_) kN
  refine v_astore_n (pc' := 15) (lv' := [(2, .ref r4), (1, .int (0 : Int32)), (0, .ref x0)]) hc_X1_back dX1_back_14 rfl rfl (Nat.le_of_ble_eq_true rfl) rfl ?_
  refine v_pick [1, 0] rfl ?_
  exact w_X1_back_l15 D l hl as h0 NN (0 : Int32) r4 h5 e
theorem w_X1_back (D : va_G) (l : Launch) (hl : l.stackTraces = false) (x0 : Nat) (h : AH) {r : Int32} {hF : AH} (e : f_X1_back x0 h = some (r, hF)) : MetV D l yX1_back (Cond.code yX1_back cX1_back 4 (Option.some .int)) 3 90 [.ref x0] h hF (oI r) :=
  met_ofF (by decide +kernel) hl (Nat.le_of_ble_eq_true rfl) rfl (v_X1_back D l hl [.ref x0] h x0 h e)
/-! BlockPapers$Workshop.ofRolls(I)I  -/
abbrev G_X2_ofRolls (D : va_G) (l : Launch) (as : List Value) (h0 hF : AH) (o : Out) : CT := (D, l, (yX2_ofRolls.cls, yX2_ofRolls, cX2_ofRolls, 5, (Option.some .int), 4, 112, []), as, h0, hF, o)
theorem hc_X2_ofRolls {D : va_G} {l : Launch} {as : List Value} {h0 hF : AH} {o : Out} : gC (G_X2_ofRolls D l as h0 hF o) = cX2_ofRolls := rfl
theorem ho_X2_ofRolls {D : va_G} {l : Launch} {as : List Value} {h0 hF : AH} {o : Out} : gO (G_X2_ofRolls D l as h0 hF o) = "BlockPapers$Workshop" := rfl
theorem hp_X2_ofRolls {D : va_G} {l : Launch} {as : List Value} {h0 hF : AH} {o : Out} (pc : Nat) : ∀ z ∈ tableOf (gHd (G_X2_ofRolls D l as h0 hF o)), covers z pc = false := hpN
def fb_X2_ofRolls_l4 (rec : Nat → Int32 → Int32 → Int32 → AH → Option (Int32 × AH)) (x0 : Nat) (x1 : Int32) (x2 : Int32) (x3 : Int32) (h : AH) : Option (Int32 × AH) :=
  bd (gtR h 1 x0 2) fun v1 =>
  gd (isC h 16 v1) <|
  bd2 (f_J2_size v1 h) fun r3 h4 =>
  if r3 ≤ x3 then (
    some (x2, h4)
  ) else (
    bd (gtR h4 1 x0 2) fun v6 =>
    gd (isC h4 16 v6) <|
    bd2 (f_J2_get v6 x3 h4) fun r8 h9 =>
    gd (isC h9 9 r8) <|
    if x1 = (7 : Int32) then (
      bd (gtI h9 9 r8 4) fun v12 =>
      rec x0 x1 (x2 + v12) (x3 + 1) h9
    ) else (
      if x1 = (11 : Int32) then (
        gd (isC h9 9 r8) <|
        bd2 (f_X10_left r8 h9) fun r14 h15 =>
        rec x0 x1 (x2 + r14) (x3 + 1) h15
      ) else (
        if x1 = (12 : Int32) then (
          bd (gtI h9 9 r8 6) fun v17 =>
          if v17 = 0 then (
            rec x0 x1 (x2 + (0 : Int32)) (x3 + 1) h9
          ) else (
            bd (gtI h9 9 r8 4) fun v18 =>
            rec x0 x1 (x2 + v18) (x3 + 1) h9
          )
        ) else (
          bd (gtI h9 9 r8 5) fun v19 =>
          rec x0 x1 (x2 + v19) (x3 + 1) h9
        )
      )
    )
  )
def f_X2_ofRolls_l4 : Nat → Nat → Int32 → Int32 → Int32 → AH → Option (Int32 × AH)
  | 0 => fun _ _ _ _ _ => none
  | n + 1 => fb_X2_ofRolls_l4 (f_X2_ofRolls_l4 n) 
theorem w_X2_ofRolls_l4 (D : va_G) (l : Launch) (hl : l.stackTraces = false) (as : List Value) (h0 : AH) {r : Int32} {hF : AH} : ∀ (n : Nat) (x0 : Nat) (x1 : Int32) (x2 : Int32) (x3 : Int32) (h : AH), f_X2_ofRolls_l4 n x0 x1 x2 x3 h = some (r, hF) → V (G_X2_ofRolls D l as h0 hF (oI r)) h 4 [(0, .ref x0), (1, .int x1), (2, .int x2), (3, .int x3)] [] := by
  intro n; induction n with
  | zero => intro x0 x1 x2 x3 h e; exact absurd (show (none : Option (Int32 × AH)) = some _ from e) (fun z => nomatch z)
  | succ n IH =>
    intro x0 x1 x2 x3 h e
    have e : fb_X2_ofRolls_l4 (f_X2_ofRolls_l4 n) x0 x1 x2 x3 h = some (r, hF) := e
    unfold fb_X2_ofRolls_l4 at e
    refine v_iload_n (pc' := 5) hc_X2_ofRolls dX2_ofRolls_4 rfl rfl 3 rfl ?_
    refine v_aload_n (pc' := 6) hc_X2_ofRolls dX2_ofRolls_5 rfl rfl 0 rfl ?_
    refine v_gfR (pc' := 9) hc_X2_ofRolls ho_X2_ofRolls KX2 2 (Nat.le_of_ble_eq_true rfl) q169 (Or.inl rfl) dX2_ofRolls_6 rfl e (fun v1 _ e => ?_)
    obtain ⟨c2, e⟩ := gd_of e
    obtain ⟨r3, h4, e5, e⟩ := bd2_of e
    refine k_F (pc' := 14) (x := ⟨"java/util/List", "size", "()I"⟩) (y := ⟨"java/util/ArrayList", "size", "()I"⟩) (ci := 16) (n := 0) hc_X2_ofRolls ho_X2_ofRolls rfl c2 (w_J2_size D l hl v1 h e5) (wA_l q513) (by decide +kernel) q348 q350 q79 q352 hy_19 ⟨Nat.le_of_ble_eq_true rfl, Nat.le_of_ble_eq_true rfl⟩ rfl rfl (Nat.le_of_ble_eq_true rfl) dX2_ofRolls_9 rfl (kS ?_) kN
    refine v_icmp_ge (pt := 100) (pf := 17) hc_X2_ofRolls dX2_ofRolls_14 rfl rfl e (fun _ e => ?_) (fun _ e => ?_)
    · refine v_iload_n (pc' := 101) hc_X2_ofRolls dX2_ofRolls_100 rfl rfl 2 rfl ?_
      obtain ⟨rfl, rfl⟩ := ret_of e
      exact v_iret hc_X2_ofRolls rfl dX2_ofRolls_101 rfl rfl
    · refine v_aload_n (pc' := 18) hc_X2_ofRolls dX2_ofRolls_17 rfl rfl 0 rfl ?_
      refine v_gfR (pc' := 21) hc_X2_ofRolls ho_X2_ofRolls KX2 2 (Nat.le_of_ble_eq_true rfl) q169 (Or.inl rfl) dX2_ofRolls_18 rfl e (fun v6 _ e => ?_)
      refine v_iload_n (pc' := 22) hc_X2_ofRolls dX2_ofRolls_21 rfl rfl 3 rfl ?_
      obtain ⟨c7, e⟩ := gd_of e
      obtain ⟨r8, h9, e10, e⟩ := bd2_of e
      refine k_F (pc' := 27) (x := ⟨"java/util/List", "get", "(I)Ljava/lang/Object;"⟩) (y := ⟨"java/util/ArrayList", "get", "(I)Ljava/lang/Object;"⟩) (ci := 16) (n := 1) hc_X2_ofRolls ho_X2_ofRolls rfl c7 (w_J2_get D l hl v6 x3 h4 e10) (wA_l q515) (by decide +kernel) q401 q403 q79 q405 hy_23 ⟨Nat.le_of_ble_eq_true rfl, Nat.le_of_ble_eq_true rfl⟩ rfl rfl (Nat.le_of_ble_eq_true rfl) dX2_ofRolls_22 rfl (kS ?_) kN
      obtain ⟨c11, e⟩ := gd_of e
      refine v_cast (pc' := 30) (ci := 9) hc_X2_ofRolls ho_X2_ofRolls rfl q516 (Or.inl rfl) dX2_ofRolls_27 rfl c11 ?_
      refine v_astore (pc' := 32) (lv' := [(4, .ref r8), (0, .ref x0), (1, .int x1), (2, .int x2), (3, .int x3)]) hc_X2_ofRolls dX2_ofRolls_30 rfl (Nat.le_of_ble_eq_true rfl) rfl ?_
      refine v_iload_n (pc' := 33) hc_X2_ofRolls dX2_ofRolls_32 rfl rfl 3 rfl ?_
      refine v_iload_n (pc' := 34) hc_X2_ofRolls dX2_ofRolls_33 rfl rfl 2 rfl ?_
      refine v_bipush (pc' := 36) (v := 7) hc_X2_ofRolls dX2_ofRolls_34 rfl rfl ?_
      refine v_icmp_ne (pt := 47) (pf := 39) hc_X2_ofRolls dX2_ofRolls_36 rfl rfl e (fun _ e => ?_) (fun _ e => ?_)
      · refine v_aload (pc' := 41) hc_X2_ofRolls dX2_ofRolls_39 rfl 0 rfl ?_
        refine v_gnI (pc' := 44) hc_X2_ofRolls ho_X2_ofRolls KX10 4 (Nat.le_of_ble_eq_true rfl) q1252 rfl dX2_ofRolls_41 rfl e (fun v12 _ e => ?_)
        refine v_goto (pt := 92) hc_X2_ofRolls dX2_ofRolls_44 rfl ?_
        refine v_iadd (pc' := 93) hc_X2_ofRolls dX2_ofRolls_92 rfl ?_
        refine v_istore_n (pc' := 94) (lv' := [(2, .int (x2 + v12)), (4, .ref r8), (0, .ref x0), (1, .int x1), (3, .int x3)]) hc_X2_ofRolls dX2_ofRolls_93 rfl rfl (Nat.le_of_ble_eq_true rfl) rfl ?_
        refine v_iinc (pc' := 97) (lv' := [(3, .int (x3 + 1)), (2, .int (x2 + v12)), (4, .ref r8), (0, .ref x0), (1, .int x1)]) (v := x3 + 1) hc_X2_ofRolls dX2_ofRolls_94 rfl 4 rfl rfl (Nat.le_of_ble_eq_true rfl) rfl ?_
        refine v_goto (pt := 4) hc_X2_ofRolls dX2_ofRolls_97 rfl ?_
        refine v_pick [3, 4, 1, 0] rfl ?_
        exact IH x0 x1 (x2 + v12) (x3 + 1) h9 e
      · refine v_iload_n (pc' := 48) hc_X2_ofRolls dX2_ofRolls_47 rfl rfl 2 rfl ?_
        refine v_bipush (pc' := 50) (v := 11) hc_X2_ofRolls dX2_ofRolls_48 rfl rfl ?_
        refine v_icmp_ne (pt := 61) (pf := 53) hc_X2_ofRolls dX2_ofRolls_50 rfl rfl e (fun _ e => ?_) (fun _ e => ?_)
        · refine v_aload (pc' := 55) hc_X2_ofRolls dX2_ofRolls_53 rfl 0 rfl ?_
          obtain ⟨c13, e⟩ := gd_of e
          obtain ⟨r14, h15, e16, e⟩ := bd2_of e
          refine k_V (pc' := 58) (ci := 9) (n := 0) hc_X2_ofRolls ho_X2_ofRolls rfl c13 (w_X10_left D l hl r8 h9 e16) (wA_l q517) q518 (wA_l q519) q109 q520 hy_80 ⟨Nat.le_of_ble_eq_true rfl, Nat.le_of_ble_eq_true rfl⟩ rfl rfl (Nat.le_of_ble_eq_true rfl) dX2_ofRolls_55 rfl (kS ?_) kN
          refine v_goto (pt := 92) hc_X2_ofRolls dX2_ofRolls_58 rfl ?_
          refine v_iadd (pc' := 93) hc_X2_ofRolls dX2_ofRolls_92 rfl ?_
          refine v_istore_n (pc' := 94) (lv' := [(2, .int (x2 + r14)), (4, .ref r8), (0, .ref x0), (1, .int x1), (3, .int x3)]) hc_X2_ofRolls dX2_ofRolls_93 rfl rfl (Nat.le_of_ble_eq_true rfl) rfl ?_
          refine v_iinc (pc' := 97) (lv' := [(3, .int (x3 + 1)), (2, .int (x2 + r14)), (4, .ref r8), (0, .ref x0), (1, .int x1)]) (v := x3 + 1) hc_X2_ofRolls dX2_ofRolls_94 rfl 4 rfl rfl (Nat.le_of_ble_eq_true rfl) rfl ?_
          refine v_goto (pt := 4) hc_X2_ofRolls dX2_ofRolls_97 rfl ?_
          refine v_pick [3, 4, 1, 0] rfl ?_
          exact IH x0 x1 (x2 + r14) (x3 + 1) h15 e
        · refine v_iload_n (pc' := 62) hc_X2_ofRolls dX2_ofRolls_61 rfl rfl 2 rfl ?_
          refine v_bipush (pc' := 64) (v := 12) hc_X2_ofRolls dX2_ofRolls_62 rfl rfl ?_
          refine v_icmp_ne (pt := 87) (pf := 67) hc_X2_ofRolls dX2_ofRolls_64 rfl rfl e (fun _ e => ?_) (fun _ e => ?_)
          · refine v_aload (pc' := 69) hc_X2_ofRolls dX2_ofRolls_67 rfl 0 rfl ?_
            refine v_gnI (pc' := 72) hc_X2_ofRolls ho_X2_ofRolls KX10 6 (Nat.le_of_ble_eq_true rfl) q1259 rfl dX2_ofRolls_69 rfl e (fun v17 _ e => ?_)
            refine v_if_eq (pt := 83) (pf := 75) hc_X2_ofRolls dX2_ofRolls_72 rfl rfl e (fun _ e => ?_) (fun _ e => ?_)
            · refine v_iconst (pc' := 84) (v := 0) hc_X2_ofRolls dX2_ofRolls_83 rfl rfl ?_
              refine v_goto (pt := 92) hc_X2_ofRolls dX2_ofRolls_84 rfl ?_
              refine v_iadd (pc' := 93) hc_X2_ofRolls dX2_ofRolls_92 rfl ?_
              refine v_istore_n (pc' := 94) (lv' := [(2, .int (x2 + (0 : Int32))), (4, .ref r8), (0, .ref x0), (1, .int x1), (3, .int x3)]) hc_X2_ofRolls dX2_ofRolls_93 rfl rfl (Nat.le_of_ble_eq_true rfl) rfl ?_
              refine v_iinc (pc' := 97) (lv' := [(3, .int (x3 + 1)), (2, .int (x2 + (0 : Int32))), (4, .ref r8), (0, .ref x0), (1, .int x1)]) (v := x3 + 1) hc_X2_ofRolls dX2_ofRolls_94 rfl 4 rfl rfl (Nat.le_of_ble_eq_true rfl) rfl ?_
              refine v_goto (pt := 4) hc_X2_ofRolls dX2_ofRolls_97 rfl ?_
              refine v_pick [3, 4, 1, 0] rfl ?_
              exact IH x0 x1 (x2 + (0 : Int32)) (x3 + 1) h9 e
            · refine v_aload (pc' := 77) hc_X2_ofRolls dX2_ofRolls_75 rfl 0 rfl ?_
              refine v_gnI (pc' := 80) hc_X2_ofRolls ho_X2_ofRolls KX10 4 (Nat.le_of_ble_eq_true rfl) q1252 rfl dX2_ofRolls_77 rfl e (fun v18 _ e => ?_)
              refine v_goto (pt := 92) hc_X2_ofRolls dX2_ofRolls_80 rfl ?_
              refine v_iadd (pc' := 93) hc_X2_ofRolls dX2_ofRolls_92 rfl ?_
              refine v_istore_n (pc' := 94) (lv' := [(2, .int (x2 + v18)), (4, .ref r8), (0, .ref x0), (1, .int x1), (3, .int x3)]) hc_X2_ofRolls dX2_ofRolls_93 rfl rfl (Nat.le_of_ble_eq_true rfl) rfl ?_
              refine v_iinc (pc' := 97) (lv' := [(3, .int (x3 + 1)), (2, .int (x2 + v18)), (4, .ref r8), (0, .ref x0), (1, .int x1)]) (v := x3 + 1) hc_X2_ofRolls dX2_ofRolls_94 rfl 4 rfl rfl (Nat.le_of_ble_eq_true rfl) rfl ?_
              refine v_goto (pt := 4) hc_X2_ofRolls dX2_ofRolls_97 rfl ?_
              refine v_pick [3, 4, 1, 0] rfl ?_
              exact IH x0 x1 (x2 + v18) (x3 + 1) h9 e
          · refine v_aload (pc' := 89) hc_X2_ofRolls dX2_ofRolls_87 rfl 0 rfl ?_
            refine v_gnI (pc' := 92) hc_X2_ofRolls ho_X2_ofRolls KX10 5 (Nat.le_of_ble_eq_true rfl) q1256 rfl dX2_ofRolls_89 rfl e (fun v19 _ e => ?_)
            refine v_iadd (pc' := 93) hc_X2_ofRolls dX2_ofRolls_92 rfl ?_
            refine v_istore_n (pc' := 94) (lv' := [(2, .int (x2 + v19)), (4, .ref r8), (0, .ref x0), (1, .int x1), (3, .int x3)]) hc_X2_ofRolls dX2_ofRolls_93 rfl rfl (Nat.le_of_ble_eq_true rfl) rfl ?_
            refine v_iinc (pc' := 97) (lv' := [(3, .int (x3 + 1)), (2, .int (x2 + v19)), (4, .ref r8), (0, .ref x0), (1, .int x1)]) (v := x3 + 1) hc_X2_ofRolls dX2_ofRolls_94 rfl 4 rfl rfl (Nat.le_of_ble_eq_true rfl) rfl ?_
            refine v_goto (pt := 4) hc_X2_ofRolls dX2_ofRolls_97 rfl ?_
            refine v_pick [3, 4, 1, 0] rfl ?_
            exact IH x0 x1 (x2 + v19) (x3 + 1) h9 e
def f_X2_ofRolls (x0 : Nat) (x1 : Int32) (h : AH) : Option (Int32 × AH) :=
  f_X2_ofRolls_l4 NN x0 x1 (0 : Int32) (0 : Int32) h
theorem v_X2_ofRolls (D : va_G) (l : Launch) (hl : l.stackTraces = false) (as : List Value) (h0 : AH) {r : Int32} {hF : AH} (x0 : Nat) (x1 : Int32) (h : AH) (e : f_X2_ofRolls x0 x1 h = some (r, hF)) : V (G_X2_ofRolls D l as h0 hF (oI r)) h 0 [(0, .ref x0), (1, .int x1)] [] := by
  unfold f_X2_ofRolls at e
  refine v_iconst (pc' := 1) (v := 0) hc_X2_ofRolls dX2_ofRolls_0 rfl rfl ?_
  refine v_istore_n (pc' := 2) (lv' := [(2, .int (0 : Int32)), (0, .ref x0), (1, .int x1)]) hc_X2_ofRolls dX2_ofRolls_1 rfl rfl (Nat.le_of_ble_eq_true rfl) rfl ?_
  refine v_iconst (pc' := 3) (v := 0) hc_X2_ofRolls dX2_ofRolls_2 rfl rfl ?_
  refine v_istore_n (pc' := 4) (lv' := [(3, .int (0 : Int32)), (2, .int (0 : Int32)), (0, .ref x0), (1, .int x1)]) hc_X2_ofRolls dX2_ofRolls_3 rfl rfl (Nat.le_of_ble_eq_true rfl) rfl ?_
  refine v_pick [2, 3, 1, 0] rfl ?_
  exact w_X2_ofRolls_l4 D l hl as h0 NN x0 x1 (0 : Int32) (0 : Int32) h e
theorem w_X2_ofRolls (D : va_G) (l : Launch) (hl : l.stackTraces = false) (x0 : Nat) (x1 : Int32) (h : AH) {r : Int32} {hF : AH} (e : f_X2_ofRolls x0 x1 h = some (r, hF)) : MetV D l yX2_ofRolls (Cond.code yX2_ofRolls cX2_ofRolls 5 (Option.some .int)) 4 112 [.ref x0, .int x1] h hF (oI r) :=
  met_ofF (by decide +kernel) hl (Nat.le_of_ble_eq_true rfl) rfl (v_X2_ofRolls D l hl [.ref x0, .int x1] h x0 x1 h e)
/-! BlockPapers.grams()I  -/
abbrev G_X1_grams (D : va_G) (l : Launch) (as : List Value) (h0 hF : AH) (o : Out) : CT := (D, l, (yX1_grams.cls, yX1_grams, cX1_grams, 4, (Option.some .int), 3, 90, []), as, h0, hF, o)
theorem hc_X1_grams {D : va_G} {l : Launch} {as : List Value} {h0 hF : AH} {o : Out} : gC (G_X1_grams D l as h0 hF o) = cX1_grams := rfl
theorem ho_X1_grams {D : va_G} {l : Launch} {as : List Value} {h0 hF : AH} {o : Out} : gO (G_X1_grams D l as h0 hF o) = "BlockPapers" := rfl
theorem hp_X1_grams {D : va_G} {l : Launch} {as : List Value} {h0 hF : AH} {o : Out} (pc : Nat) : ∀ z ∈ tableOf (gHd (G_X1_grams D l as h0 hF o)), covers z pc = false := hpN
def fb_X1_grams_l15 (rec : Int32 → Nat → AH → Option (Int32 × AH)) (x1 : Int32) (x2 : Nat) (h : AH) : Option (Int32 × AH) :=
  gd (isC h 20 x2) <|
  bd2 (f_J19_hasNext x2 h) fun r2 h3 =>
  if r2 = 0 then (
    some (x1, h3)
  ) else (
    gd (isC h3 20 x2) <|
    bd2 (f_J19_next x2 h3) fun r6 h7 =>
    gd (isC h7 8 r6) <|
    bd (gtI h7 8 r6 2) fun v10 =>
    rec (x1 + v10) x2 h7
  )
def f_X1_grams_l15 : Nat → Int32 → Nat → AH → Option (Int32 × AH)
  | 0 => fun _ _ _ => none
  | n + 1 => fb_X1_grams_l15 (f_X1_grams_l15 n) 
theorem w_X1_grams_l15 (D : va_G) (l : Launch) (hl : l.stackTraces = false) (as : List Value) (h0 : AH) {r : Int32} {hF : AH} : ∀ (n : Nat) (x1 : Int32) (x2 : Nat) (h : AH), f_X1_grams_l15 n x1 x2 h = some (r, hF) → V (G_X1_grams D l as h0 hF (oI r)) h 15 [(1, .int x1), (2, .ref x2)] [] := by
  intro n; induction n with
  | zero => intro x1 x2 h e; exact absurd (show (none : Option (Int32 × AH)) = some _ from e) (fun z => nomatch z)
  | succ n IH =>
    intro x1 x2 h e
    have e : fb_X1_grams_l15 (f_X1_grams_l15 n) x1 x2 h = some (r, hF) := e
    unfold fb_X1_grams_l15 at e
    refine v_aload_n (pc' := 16) hc_X1_grams dX1_grams_15 rfl rfl 1 rfl ?_
    obtain ⟨c1, e⟩ := gd_of e
    obtain ⟨r2, h3, e4, e⟩ := bd2_of e
    refine k_F (pc' := 21) (x := ⟨"java/util/Iterator", "hasNext", "()Z"⟩) (y := ⟨"java/util/ArrayList$Itr", "hasNext", "()Z"⟩) (ci := 20) (n := 0) hc_X1_grams ho_X1_grams rfl c1 (w_J19_hasNext D l hl x2 h e4) (wA_l q386) (by decide +kernel) q418 q420 q101 q422 hy_109 ⟨Nat.le_of_ble_eq_true rfl, Nat.le_of_ble_eq_true rfl⟩ rfl rfl (Nat.le_of_ble_eq_true rfl) dX1_grams_16 rfl (kS ?_) kN
    refine v_if_eq (pt := 44) (pf := 24) hc_X1_grams dX1_grams_21 rfl rfl e (fun _ e => ?_) (fun _ e => ?_)
    · refine v_iload_n (pc' := 45) hc_X1_grams dX1_grams_44 rfl rfl 0 rfl ?_
      obtain ⟨rfl, rfl⟩ := ret_of e
      exact v_iret hc_X1_grams rfl dX1_grams_45 rfl rfl
    · refine v_aload_n (pc' := 25) hc_X1_grams dX1_grams_24 rfl rfl 1 rfl ?_
      obtain ⟨c5, e⟩ := gd_of e
      obtain ⟨r6, h7, e8, e⟩ := bd2_of e
      refine k_F (pc' := 30) (x := ⟨"java/util/Iterator", "next", "()Ljava/lang/Object;"⟩) (y := ⟨"java/util/ArrayList$Itr", "next", "()Ljava/lang/Object;"⟩) (ci := 20) (n := 0) hc_X1_grams ho_X1_grams rfl c5 (w_J19_next D l hl x2 h3 e8) (wA_l q424) (by decide +kernel) q456 q458 q101 q460 hy_111 ⟨Nat.le_of_ble_eq_true rfl, Nat.le_of_ble_eq_true rfl⟩ rfl rfl (Nat.le_of_ble_eq_true rfl) dX1_grams_25 rfl (kS ?_) kN
      obtain ⟨c9, e⟩ := gd_of e
      refine v_cast (pc' := 33) (ci := 8) hc_X1_grams ho_X1_grams rfl q525 (Or.inl rfl) dX1_grams_30 rfl c9 ?_
      refine v_astore_n (pc' := 34) (lv' := [(3, .ref r6), (1, .int x1), (2, .ref x2)]) hc_X1_grams dX1_grams_33 rfl rfl (Nat.le_of_ble_eq_true rfl) rfl ?_
      refine v_iload_n (pc' := 35) hc_X1_grams dX1_grams_34 rfl rfl 1 rfl ?_
      refine v_aload_n (pc' := 36) hc_X1_grams dX1_grams_35 rfl rfl 0 rfl ?_
      refine v_gnI (pc' := 39) hc_X1_grams ho_X1_grams KX9 2 (Nat.le_of_ble_eq_true rfl) q1201 rfl dX1_grams_36 rfl e (fun v10 _ e => ?_)
      refine v_iadd (pc' := 40) hc_X1_grams dX1_grams_39 rfl ?_
      refine v_istore_n (pc' := 41) (lv' := [(1, .int (x1 + v10)), (3, .ref r6), (2, .ref x2)]) hc_X1_grams dX1_grams_40 rfl rfl (Nat.le_of_ble_eq_true rfl) rfl ?_
      refine v_goto (pt := 15) hc_X1_grams dX1_grams_41 rfl ?_
      refine v_pick [0, 2] rfl ?_
      exact IH (x1 + v10) x2 h7 e
def f_X1_grams (x0 : Nat) (h : AH) : Option (Int32 × AH) :=
  bd (gtR h 0 x0 0) fun v1 =>
  bd (gtR h 1 v1 1) fun v2 =>
  gd (isC h 16 v2) <|
  bd2 (f_J2_iterator v2 h) fun r4 h5 =>
  f_X1_grams_l15 NN (0 : Int32) r4 h5
theorem v_X1_grams (D : va_G) (l : Launch) (hl : l.stackTraces = false) (as : List Value) (h0 : AH) {r : Int32} {hF : AH} (x0 : Nat) (h : AH) (e : f_X1_grams x0 h = some (r, hF)) : V (G_X1_grams D l as h0 hF (oI r)) h 0 [(0, .ref x0)] [] := by
  unfold f_X1_grams at e
  refine v_iconst (pc' := 1) (v := 0) hc_X1_grams dX1_grams_0 rfl rfl ?_
  refine v_istore_n (pc' := 2) (lv' := [(1, .int (0 : Int32)), (0, .ref x0)]) hc_X1_grams dX1_grams_1 rfl rfl (Nat.le_of_ble_eq_true rfl) rfl ?_
  refine v_aload_n (pc' := 3) hc_X1_grams dX1_grams_2 rfl rfl 1 rfl ?_
  refine v_gfR (pc' := 6) hc_X1_grams ho_X1_grams KX1 0 (Nat.le_of_ble_eq_true rfl) q235 (Or.inl rfl) dX1_grams_3 rfl e (fun v1 _ e => ?_)
  refine v_gnR (pc' := 9) hc_X1_grams ho_X1_grams KX2 1 (Nat.le_of_ble_eq_true rfl) q167 rfl dX1_grams_6 rfl e (fun v2 _ e => ?_)
  obtain ⟨c3, e⟩ := gd_of e
  obtain ⟨r4, h5, e6, e⟩ := bd2_of e
  refine k_F (pc' := 14) (x := ⟨"java/util/List", "iterator", "()Ljava/util/Iterator;"⟩) (y := ⟨"java/util/ArrayList", "iterator", "()Ljava/util/Iterator;"⟩) (ci := 16) (n := 0) hc_X1_grams ho_X1_grams rfl c3 (w_J2_iterator D l hl v2 h e6) (wA_l q358) (by decide +kernel) q361 q363 q79 q365 hy_108 ⟨Nat.le_of_ble_eq_true rfl, Nat.le_of_ble_eq_true rfl⟩ rfl rfl (Nat.le_of_ble_eq_true rfl) dX1_grams_9 rfl (kS ?_) kN
  refine v_astore_n (pc' := 15) (lv' := [(2, .ref r4), (1, .int (0 : Int32)), (0, .ref x0)]) hc_X1_grams dX1_grams_14 rfl rfl (Nat.le_of_ble_eq_true rfl) rfl ?_
  refine v_pick [1, 0] rfl ?_
  exact w_X1_grams_l15 D l hl as h0 NN (0 : Int32) r4 h5 e
theorem w_X1_grams (D : va_G) (l : Launch) (hl : l.stackTraces = false) (x0 : Nat) (h : AH) {r : Int32} {hF : AH} (e : f_X1_grams x0 h = some (r, hF)) : MetV D l yX1_grams (Cond.code yX1_grams cX1_grams 4 (Option.some .int)) 3 90 [.ref x0] h hF (oI r) :=
  met_ofF (by decide +kernel) hl (Nat.le_of_ble_eq_true rfl) rfl (v_X1_grams D l hl [.ref x0] h x0 h e)
/-! BlockPapers$Workshop.ofRooms(I)I  -/
abbrev G_X2_ofRooms (D : va_G) (l : Launch) (as : List Value) (h0 hF : AH) (o : Out) : CT := (D, l, (yX2_ofRooms.cls, yX2_ofRooms, cX2_ofRooms, 5, (Option.some .int), 4, 112, []), as, h0, hF, o)
theorem hc_X2_ofRooms {D : va_G} {l : Launch} {as : List Value} {h0 hF : AH} {o : Out} : gC (G_X2_ofRooms D l as h0 hF o) = cX2_ofRooms := rfl
theorem ho_X2_ofRooms {D : va_G} {l : Launch} {as : List Value} {h0 hF : AH} {o : Out} : gO (G_X2_ofRooms D l as h0 hF o) = "BlockPapers$Workshop" := rfl
theorem hp_X2_ofRooms {D : va_G} {l : Launch} {as : List Value} {h0 hF : AH} {o : Out} (pc : Nat) : ∀ z ∈ tableOf (gHd (G_X2_ofRooms D l as h0 hF o)), covers z pc = false := hpN
def fb_X2_ofRooms_l4 (rec : Nat → Int32 → Int32 → Int32 → AH → Option (Int32 × AH)) (x0 : Nat) (x1 : Int32) (x2 : Int32) (x3 : Int32) (h : AH) : Option (Int32 × AH) :=
  bd (gtR h 1 x0 3) fun v1 =>
  gd (isC h 16 v1) <|
  bd2 (f_J2_size v1 h) fun r3 h4 =>
  if r3 ≤ x3 then (
    some (x2, h4)
  ) else (
    bd (gtR h4 1 x0 3) fun v6 =>
    gd (isC h4 16 v6) <|
    bd2 (f_J2_get v6 x3 h4) fun r8 h9 =>
    gd (isC h9 4 r8) <|
    if x1 = (8 : Int32) then (
      bd (gtI h9 4 r8 0) fun v12 =>
      bd (gtR h9 4 r8 2) fun v13 =>
      gd (isC h9 16 v13) <|
      bd2 (f_J2_size v13 h9) fun r15 h16 =>
      rec x0 x1 (x2 + (v12 * r15)) (x3 + 1) h16
    ) else (
      if x1 = (9 : Int32) then (
        bd (gtI h9 4 r8 3) fun v18 =>
        rec x0 x1 (x2 + v18) (x3 + 1) h9
      ) else (
        if x1 = (10 : Int32) then (
          bd (gtI h9 4 r8 0) fun v19 =>
          bd (gtI h9 4 r8 4) fun v20 =>
          rec x0 x1 (x2 + (v19 * v20)) (x3 + 1) h9
        ) else (
          gd (isC h9 4 r8) <|
          bd2 (f_X5_isFull r8 h9) fun r22 h23 =>
          if r22 = 0 then (
            rec x0 x1 (x2 + (0 : Int32)) (x3 + 1) h23
          ) else (
            rec x0 x1 (x2 + (1 : Int32)) (x3 + 1) h23
          )
        )
      )
    )
  )
def f_X2_ofRooms_l4 : Nat → Nat → Int32 → Int32 → Int32 → AH → Option (Int32 × AH)
  | 0 => fun _ _ _ _ _ => none
  | n + 1 => fb_X2_ofRooms_l4 (f_X2_ofRooms_l4 n) 
theorem w_X2_ofRooms_l4 (D : va_G) (l : Launch) (hl : l.stackTraces = false) (as : List Value) (h0 : AH) {r : Int32} {hF : AH} : ∀ (n : Nat) (x0 : Nat) (x1 : Int32) (x2 : Int32) (x3 : Int32) (h : AH), f_X2_ofRooms_l4 n x0 x1 x2 x3 h = some (r, hF) → V (G_X2_ofRooms D l as h0 hF (oI r)) h 4 [(0, .ref x0), (1, .int x1), (2, .int x2), (3, .int x3)] [] := by
  intro n; induction n with
  | zero => intro x0 x1 x2 x3 h e; exact absurd (show (none : Option (Int32 × AH)) = some _ from e) (fun z => nomatch z)
  | succ n IH =>
    intro x0 x1 x2 x3 h e
    have e : fb_X2_ofRooms_l4 (f_X2_ofRooms_l4 n) x0 x1 x2 x3 h = some (r, hF) := e
    unfold fb_X2_ofRooms_l4 at e
    refine v_iload_n (pc' := 5) hc_X2_ofRooms dX2_ofRooms_4 rfl rfl 3 rfl ?_
    refine v_aload_n (pc' := 6) hc_X2_ofRooms dX2_ofRooms_5 rfl rfl 0 rfl ?_
    refine v_gfR (pc' := 9) hc_X2_ofRooms ho_X2_ofRooms KX2 3 (Nat.le_of_ble_eq_true rfl) q171 (Or.inl rfl) dX2_ofRooms_6 rfl e (fun v1 _ e => ?_)
    obtain ⟨c2, e⟩ := gd_of e
    obtain ⟨r3, h4, e5, e⟩ := bd2_of e
    refine k_F (pc' := 14) (x := ⟨"java/util/List", "size", "()I"⟩) (y := ⟨"java/util/ArrayList", "size", "()I"⟩) (ci := 16) (n := 0) hc_X2_ofRooms ho_X2_ofRooms rfl c2 (w_J2_size D l hl v1 h e5) (wA_l q513) (by decide +kernel) q348 q350 q79 q352 hy_19 ⟨Nat.le_of_ble_eq_true rfl, Nat.le_of_ble_eq_true rfl⟩ rfl rfl (Nat.le_of_ble_eq_true rfl) dX2_ofRooms_9 rfl (kS ?_) kN
    refine v_icmp_ge (pt := 113) (pf := 17) hc_X2_ofRooms dX2_ofRooms_14 rfl rfl e (fun _ e => ?_) (fun _ e => ?_)
    · refine v_iload_n (pc' := 114) hc_X2_ofRooms dX2_ofRooms_113 rfl rfl 2 rfl ?_
      obtain ⟨rfl, rfl⟩ := ret_of e
      exact v_iret hc_X2_ofRooms rfl dX2_ofRooms_114 rfl rfl
    · refine v_aload_n (pc' := 18) hc_X2_ofRooms dX2_ofRooms_17 rfl rfl 0 rfl ?_
      refine v_gfR (pc' := 21) hc_X2_ofRooms ho_X2_ofRooms KX2 3 (Nat.le_of_ble_eq_true rfl) q171 (Or.inl rfl) dX2_ofRooms_18 rfl e (fun v6 _ e => ?_)
      refine v_iload_n (pc' := 22) hc_X2_ofRooms dX2_ofRooms_21 rfl rfl 3 rfl ?_
      obtain ⟨c7, e⟩ := gd_of e
      obtain ⟨r8, h9, e10, e⟩ := bd2_of e
      refine k_F (pc' := 27) (x := ⟨"java/util/List", "get", "(I)Ljava/lang/Object;"⟩) (y := ⟨"java/util/ArrayList", "get", "(I)Ljava/lang/Object;"⟩) (ci := 16) (n := 1) hc_X2_ofRooms ho_X2_ofRooms rfl c7 (w_J2_get D l hl v6 x3 h4 e10) (wA_l q515) (by decide +kernel) q401 q403 q79 q405 hy_23 ⟨Nat.le_of_ble_eq_true rfl, Nat.le_of_ble_eq_true rfl⟩ rfl rfl (Nat.le_of_ble_eq_true rfl) dX2_ofRooms_22 rfl (kS ?_) kN
      obtain ⟨c11, e⟩ := gd_of e
      refine v_cast (pc' := 30) (ci := 4) hc_X2_ofRooms ho_X2_ofRooms rfl q544 (Or.inl rfl) dX2_ofRooms_27 rfl c11 ?_
      refine v_astore (pc' := 32) (lv' := [(4, .ref r8), (0, .ref x0), (1, .int x1), (2, .int x2), (3, .int x3)]) hc_X2_ofRooms dX2_ofRooms_30 rfl (Nat.le_of_ble_eq_true rfl) rfl ?_
      refine v_iload_n (pc' := 33) hc_X2_ofRooms dX2_ofRooms_32 rfl rfl 3 rfl ?_
      refine v_iload_n (pc' := 34) hc_X2_ofRooms dX2_ofRooms_33 rfl rfl 2 rfl ?_
      refine v_bipush (pc' := 36) (v := 8) hc_X2_ofRooms dX2_ofRooms_34 rfl rfl ?_
      refine v_icmp_ne (pt := 58) (pf := 39) hc_X2_ofRooms dX2_ofRooms_36 rfl rfl e (fun _ e => ?_) (fun _ e => ?_)
      · refine v_aload (pc' := 41) hc_X2_ofRooms dX2_ofRooms_39 rfl 0 rfl ?_
        refine v_gnI (pc' := 44) hc_X2_ofRooms ho_X2_ofRooms KX5 0 (Nat.le_of_ble_eq_true rfl) q874 rfl dX2_ofRooms_41 rfl e (fun v12 _ e => ?_)
        refine v_aload (pc' := 46) hc_X2_ofRooms dX2_ofRooms_44 rfl 0 rfl ?_
        refine v_gnR (pc' := 49) hc_X2_ofRooms ho_X2_ofRooms KX5 2 (Nat.le_of_ble_eq_true rfl) q882 rfl dX2_ofRooms_46 rfl e (fun v13 _ e => ?_)
        obtain ⟨c14, e⟩ := gd_of e
        obtain ⟨r15, h16, e17, e⟩ := bd2_of e
        refine k_F (pc' := 54) (x := ⟨"java/util/List", "size", "()I"⟩) (y := ⟨"java/util/ArrayList", "size", "()I"⟩) (ci := 16) (n := 0) hc_X2_ofRooms ho_X2_ofRooms rfl c14 (w_J2_size D l hl v13 h9 e17) (wA_l q513) (by decide +kernel) q348 q350 q79 q352 hy_19 ⟨Nat.le_of_ble_eq_true rfl, Nat.le_of_ble_eq_true rfl⟩ rfl rfl (Nat.le_of_ble_eq_true rfl) dX2_ofRooms_49 rfl (kS ?_) kN
        refine v_imul (pc' := 55) hc_X2_ofRooms dX2_ofRooms_54 rfl ?_
        refine v_goto (pt := 105) hc_X2_ofRooms dX2_ofRooms_55 rfl ?_
        refine v_iadd (pc' := 106) hc_X2_ofRooms dX2_ofRooms_105 rfl ?_
        refine v_istore_n (pc' := 107) (lv' := [(2, .int (x2 + (v12 * r15))), (4, .ref r8), (0, .ref x0), (1, .int x1), (3, .int x3)]) hc_X2_ofRooms dX2_ofRooms_106 rfl rfl (Nat.le_of_ble_eq_true rfl) rfl ?_
        refine v_iinc (pc' := 110) (lv' := [(3, .int (x3 + 1)), (2, .int (x2 + (v12 * r15))), (4, .ref r8), (0, .ref x0), (1, .int x1)]) (v := x3 + 1) hc_X2_ofRooms dX2_ofRooms_107 rfl 4 rfl rfl (Nat.le_of_ble_eq_true rfl) rfl ?_
        refine v_goto (pt := 4) hc_X2_ofRooms dX2_ofRooms_110 rfl ?_
        refine v_pick [3, 4, 1, 0] rfl ?_
        exact IH x0 x1 (x2 + (v12 * r15)) (x3 + 1) h16 e
      · refine v_iload_n (pc' := 59) hc_X2_ofRooms dX2_ofRooms_58 rfl rfl 2 rfl ?_
        refine v_bipush (pc' := 61) (v := 9) hc_X2_ofRooms dX2_ofRooms_59 rfl rfl ?_
        refine v_icmp_ne (pt := 72) (pf := 64) hc_X2_ofRooms dX2_ofRooms_61 rfl rfl e (fun _ e => ?_) (fun _ e => ?_)
        · refine v_aload (pc' := 66) hc_X2_ofRooms dX2_ofRooms_64 rfl 0 rfl ?_
          refine v_gnI (pc' := 69) hc_X2_ofRooms ho_X2_ofRooms KX5 3 (Nat.le_of_ble_eq_true rfl) q886 rfl dX2_ofRooms_66 rfl e (fun v18 _ e => ?_)
          refine v_goto (pt := 105) hc_X2_ofRooms dX2_ofRooms_69 rfl ?_
          refine v_iadd (pc' := 106) hc_X2_ofRooms dX2_ofRooms_105 rfl ?_
          refine v_istore_n (pc' := 107) (lv' := [(2, .int (x2 + v18)), (4, .ref r8), (0, .ref x0), (1, .int x1), (3, .int x3)]) hc_X2_ofRooms dX2_ofRooms_106 rfl rfl (Nat.le_of_ble_eq_true rfl) rfl ?_
          refine v_iinc (pc' := 110) (lv' := [(3, .int (x3 + 1)), (2, .int (x2 + v18)), (4, .ref r8), (0, .ref x0), (1, .int x1)]) (v := x3 + 1) hc_X2_ofRooms dX2_ofRooms_107 rfl 4 rfl rfl (Nat.le_of_ble_eq_true rfl) rfl ?_
          refine v_goto (pt := 4) hc_X2_ofRooms dX2_ofRooms_110 rfl ?_
          refine v_pick [3, 4, 1, 0] rfl ?_
          exact IH x0 x1 (x2 + v18) (x3 + 1) h9 e
        · refine v_iload_n (pc' := 73) hc_X2_ofRooms dX2_ofRooms_72 rfl rfl 2 rfl ?_
          refine v_bipush (pc' := 75) (v := 10) hc_X2_ofRooms dX2_ofRooms_73 rfl rfl ?_
          refine v_icmp_ne (pt := 92) (pf := 78) hc_X2_ofRooms dX2_ofRooms_75 rfl rfl e (fun _ e => ?_) (fun _ e => ?_)
          · refine v_aload (pc' := 80) hc_X2_ofRooms dX2_ofRooms_78 rfl 0 rfl ?_
            refine v_gnI (pc' := 83) hc_X2_ofRooms ho_X2_ofRooms KX5 0 (Nat.le_of_ble_eq_true rfl) q874 rfl dX2_ofRooms_80 rfl e (fun v19 _ e => ?_)
            refine v_aload (pc' := 85) hc_X2_ofRooms dX2_ofRooms_83 rfl 0 rfl ?_
            refine v_gnI (pc' := 88) hc_X2_ofRooms ho_X2_ofRooms KX5 4 (Nat.le_of_ble_eq_true rfl) q889 rfl dX2_ofRooms_85 rfl e (fun v20 _ e => ?_)
            refine v_imul (pc' := 89) hc_X2_ofRooms dX2_ofRooms_88 rfl ?_
            refine v_goto (pt := 105) hc_X2_ofRooms dX2_ofRooms_89 rfl ?_
            refine v_iadd (pc' := 106) hc_X2_ofRooms dX2_ofRooms_105 rfl ?_
            refine v_istore_n (pc' := 107) (lv' := [(2, .int (x2 + (v19 * v20))), (4, .ref r8), (0, .ref x0), (1, .int x1), (3, .int x3)]) hc_X2_ofRooms dX2_ofRooms_106 rfl rfl (Nat.le_of_ble_eq_true rfl) rfl ?_
            refine v_iinc (pc' := 110) (lv' := [(3, .int (x3 + 1)), (2, .int (x2 + (v19 * v20))), (4, .ref r8), (0, .ref x0), (1, .int x1)]) (v := x3 + 1) hc_X2_ofRooms dX2_ofRooms_107 rfl 4 rfl rfl (Nat.le_of_ble_eq_true rfl) rfl ?_
            refine v_goto (pt := 4) hc_X2_ofRooms dX2_ofRooms_110 rfl ?_
            refine v_pick [3, 4, 1, 0] rfl ?_
            exact IH x0 x1 (x2 + (v19 * v20)) (x3 + 1) h9 e
          · refine v_aload (pc' := 94) hc_X2_ofRooms dX2_ofRooms_92 rfl 0 rfl ?_
            obtain ⟨c21, e⟩ := gd_of e
            obtain ⟨r22, h23, e24, e⟩ := bd2_of e
            refine k_V (pc' := 97) (ci := 4) (n := 0) hc_X2_ofRooms ho_X2_ofRooms rfl c21 (w_X5_isFull D l hl r8 h9 e24) (wA_l q545) q546 (wA_l q547) q99 q548 hy_72 ⟨Nat.le_of_ble_eq_true rfl, Nat.le_of_ble_eq_true rfl⟩ rfl rfl (Nat.le_of_ble_eq_true rfl) dX2_ofRooms_94 rfl (kS ?_) kN
            refine v_if_eq (pt := 104) (pf := 100) hc_X2_ofRooms dX2_ofRooms_97 rfl rfl e (fun _ e => ?_) (fun _ e => ?_)
            · refine v_iconst (pc' := 105) (v := 0) hc_X2_ofRooms dX2_ofRooms_104 rfl rfl ?_
              refine v_iadd (pc' := 106) hc_X2_ofRooms dX2_ofRooms_105 rfl ?_
              refine v_istore_n (pc' := 107) (lv' := [(2, .int (x2 + (0 : Int32))), (4, .ref r8), (0, .ref x0), (1, .int x1), (3, .int x3)]) hc_X2_ofRooms dX2_ofRooms_106 rfl rfl (Nat.le_of_ble_eq_true rfl) rfl ?_
              refine v_iinc (pc' := 110) (lv' := [(3, .int (x3 + 1)), (2, .int (x2 + (0 : Int32))), (4, .ref r8), (0, .ref x0), (1, .int x1)]) (v := x3 + 1) hc_X2_ofRooms dX2_ofRooms_107 rfl 4 rfl rfl (Nat.le_of_ble_eq_true rfl) rfl ?_
              refine v_goto (pt := 4) hc_X2_ofRooms dX2_ofRooms_110 rfl ?_
              refine v_pick [3, 4, 1, 0] rfl ?_
              exact IH x0 x1 (x2 + (0 : Int32)) (x3 + 1) h23 e
            · refine v_iconst (pc' := 101) (v := 1) hc_X2_ofRooms dX2_ofRooms_100 rfl rfl ?_
              refine v_goto (pt := 105) hc_X2_ofRooms dX2_ofRooms_101 rfl ?_
              refine v_iadd (pc' := 106) hc_X2_ofRooms dX2_ofRooms_105 rfl ?_
              refine v_istore_n (pc' := 107) (lv' := [(2, .int (x2 + (1 : Int32))), (4, .ref r8), (0, .ref x0), (1, .int x1), (3, .int x3)]) hc_X2_ofRooms dX2_ofRooms_106 rfl rfl (Nat.le_of_ble_eq_true rfl) rfl ?_
              refine v_iinc (pc' := 110) (lv' := [(3, .int (x3 + 1)), (2, .int (x2 + (1 : Int32))), (4, .ref r8), (0, .ref x0), (1, .int x1)]) (v := x3 + 1) hc_X2_ofRooms dX2_ofRooms_107 rfl 4 rfl rfl (Nat.le_of_ble_eq_true rfl) rfl ?_
              refine v_goto (pt := 4) hc_X2_ofRooms dX2_ofRooms_110 rfl ?_
              refine v_pick [3, 4, 1, 0] rfl ?_
              exact IH x0 x1 (x2 + (1 : Int32)) (x3 + 1) h23 e
def f_X2_ofRooms (x0 : Nat) (x1 : Int32) (h : AH) : Option (Int32 × AH) :=
  f_X2_ofRooms_l4 NN x0 x1 (0 : Int32) (0 : Int32) h
theorem v_X2_ofRooms (D : va_G) (l : Launch) (hl : l.stackTraces = false) (as : List Value) (h0 : AH) {r : Int32} {hF : AH} (x0 : Nat) (x1 : Int32) (h : AH) (e : f_X2_ofRooms x0 x1 h = some (r, hF)) : V (G_X2_ofRooms D l as h0 hF (oI r)) h 0 [(0, .ref x0), (1, .int x1)] [] := by
  unfold f_X2_ofRooms at e
  refine v_iconst (pc' := 1) (v := 0) hc_X2_ofRooms dX2_ofRooms_0 rfl rfl ?_
  refine v_istore_n (pc' := 2) (lv' := [(2, .int (0 : Int32)), (0, .ref x0), (1, .int x1)]) hc_X2_ofRooms dX2_ofRooms_1 rfl rfl (Nat.le_of_ble_eq_true rfl) rfl ?_
  refine v_iconst (pc' := 3) (v := 0) hc_X2_ofRooms dX2_ofRooms_2 rfl rfl ?_
  refine v_istore_n (pc' := 4) (lv' := [(3, .int (0 : Int32)), (2, .int (0 : Int32)), (0, .ref x0), (1, .int x1)]) hc_X2_ofRooms dX2_ofRooms_3 rfl rfl (Nat.le_of_ble_eq_true rfl) rfl ?_
  refine v_pick [2, 3, 1, 0] rfl ?_
  exact w_X2_ofRooms_l4 D l hl as h0 NN x0 x1 (0 : Int32) (0 : Int32) h e
theorem w_X2_ofRooms (D : va_G) (l : Launch) (hl : l.stackTraces = false) (x0 : Nat) (x1 : Int32) (h : AH) {r : Int32} {hF : AH} (e : f_X2_ofRooms x0 x1 h = some (r, hF)) : MetV D l yX2_ofRooms (Cond.code yX2_ofRooms cX2_ofRooms 5 (Option.some .int)) 4 112 [.ref x0, .int x1] h hF (oI r) :=
  met_ofF (by decide +kernel) hl (Nat.le_of_ble_eq_true rfl) rfl (v_X2_ofRooms D l hl [.ref x0, .int x1] h x0 x1 h e)
/-! BlockPapers.number(I)I  -/
abbrev G_X1_number (D : va_G) (l : Launch) (as : List Value) (h0 hF : AH) (o : Out) : CT := (D, l, (yX1_number.cls, yX1_number, cX1_number, 2, (Option.some .int), 10, 196, []), as, h0, hF, o)
theorem hc_X1_number {D : va_G} {l : Launch} {as : List Value} {h0 hF : AH} {o : Out} : gC (G_X1_number D l as h0 hF o) = cX1_number := rfl
theorem ho_X1_number {D : va_G} {l : Launch} {as : List Value} {h0 hF : AH} {o : Out} : gO (G_X1_number D l as h0 hF o) = "BlockPapers" := rfl
theorem hp_X1_number {D : va_G} {l : Launch} {as : List Value} {h0 hF : AH} {o : Out} (pc : Nat) : ∀ z ∈ tableOf (gHd (G_X1_number D l as h0 hF o)), covers z pc = false := hpN
def f_X1_number (x0 : Nat) (x1 : Int32) (h : AH) : Option ((Int32 ⊕ Nat) × AH) :=
  bd2 (f_X1_inRange x1 (0 : Int32) (15 : Int32) h) fun r1 h2 =>
  bdX (f_X1_require r1 h2) (fun zq87 h5 =>
    outX h5 zq87
  ) fun r4 h5 =>
  if x1 = 0 then (
    bd (gtR h5 0 x0 0) fun v7 =>
    bd (gtR h5 1 v7 0) fun v8 =>
    gd (isC h5 16 v8) <|
    bd2 (f_J2_size v8 h5) fun r10 h11 =>
    some (.inl r10, h11)
  ) else (
  if x1 = 1 then (
    bd (gtR h5 0 x0 0) fun v14 =>
    bd (gtR h5 1 v14 1) fun v15 =>
    gd (isC h5 16 v15) <|
    bd2 (f_J2_size v15 h5) fun r17 h18 =>
    some (.inl r17, h18)
  ) else (
  if x1 = 2 then (
    bd (gtR h5 0 x0 0) fun v21 =>
    bd (gtR h5 1 v21 2) fun v22 =>
    gd (isC h5 16 v22) <|
    bd2 (f_J2_size v22 h5) fun r24 h25 =>
    some (.inl r24, h25)
  ) else (
  if x1 = 3 then (
    gd (isC h5 0 x0) <|
    bd2 (f_X1_back x0 h5) fun r29 h30 =>
    some (.inl r29, h30)
  ) else (
  if x1 = 4 then (
    bd (gtR h5 0 x0 0) fun v33 =>
    bd (gtR h5 1 v33 3) fun v34 =>
    gd (isC h5 16 v34) <|
    bd2 (f_J2_size v34 h5) fun r36 h37 =>
    some (.inl r36, h37)
  ) else (
  if x1 = 5 then (
    bd (gtR h5 0 x0 0) fun v40 =>
    gd (isC h5 1 v40) <|
    bdX (f_X2_hangOf v40 (-1 : Int32) h5) (fun zq45 h43 =>
      outX h43 zq45
    ) fun r42 h43 =>
    some (.inl r42, h43)
  ) else (
  if x1 = 7 then (
    bd (gtR h5 0 x0 0) fun v47 =>
    gd (isC h5 1 v47) <|
    bd2 (f_X2_ofRolls v47 x1 h5) fun r49 h50 =>
    some (.inl r49, h50)
  ) else (
  if x1 = 11 then (
    bd (gtR h5 0 x0 0) fun v53 =>
    gd (isC h5 1 v53) <|
    bd2 (f_X2_ofRolls v53 x1 h5) fun r55 h56 =>
    some (.inl r55, h56)
  ) else (
  if x1 = 12 then (
    bd (gtR h5 0 x0 0) fun v59 =>
    gd (isC h5 1 v59) <|
    bd2 (f_X2_ofRolls v59 x1 h5) fun r61 h62 =>
    some (.inl r61, h62)
  ) else (
  if x1 = 13 then (
    gd (isC h5 0 x0) <|
    bd2 (f_X1_grams x0 h5) fun r66 h67 =>
    some (.inl r66, h67)
  ) else (
  if x1 = 14 then (
    bd (gtR h5 0 x0 1) fun v70 =>
    gd (isC h5 17 v70) <|
    bd2 (f_J3_size v70 h5) fun r72 h73 =>
    some (.inl r72, h73)
  ) else (
  if x1 = 15 then (
    bd (gtR h5 0 x0 2) fun v76 =>
    gd (isC h5 18 v76) <|
    bd2 (f_J5_length v76 h5) fun r78 h79 =>
    some (.inl r78, h79)
  ) else (
  bd (gtR h5 0 x0 0) fun v82 =>
  gd (isC h5 1 v82) <|
  bd2 (f_X2_ofRooms v82 x1 h5) fun r84 h85 =>
  some (.inl r84, h85)
  ))))))))))))
theorem v_X1_number (D : va_G) (l : Launch) (hl : l.stackTraces = false) (as : List Value) (h0 : AH) {r : (Int32 ⊕ Nat)} {hF : AH} (x0 : Nat) (x1 : Int32) (h : AH) (e : f_X1_number x0 x1 h = some (r, hF)) : V (G_X1_number D l as h0 hF ((oX oI) r)) h 0 [(0, .ref x0), (1, .int x1)] [] := by
  unfold f_X1_number at e
  refine v_iload_n (pc' := 1) hc_X1_number dX1_number_0 rfl rfl 1 rfl ?_
  refine v_iconst (pc' := 2) (v := 0) hc_X1_number dX1_number_1 rfl rfl ?_
  refine v_bipush (pc' := 4) (v := 15) hc_X1_number dX1_number_2 rfl rfl ?_
  obtain ⟨r1, h2, e3, e⟩ := bd2_of e
  refine k_S (pc' := 7) (n := 3) hc_X1_number ho_X1_number (w_X1_inRange D l hl x1 (0 : Int32) (15 : Int32) h e3) (wA_l q266) q267 q75 q268 hy_39 ⟨Nat.le_of_ble_eq_true rfl, Nat.le_of_ble_eq_true rfl⟩ rfl rfl (Nat.le_of_ble_eq_true rfl) dX1_number_4 rfl (kS ?_) kN
  rcases bdX_of e with ⟨r4, h5, e6, e⟩ | ⟨zq87, h5, e6, e⟩
  · refine k_S (pc' := 10) (n := 1) hc_X1_number ho_X1_number (w_X1_require D l hl r1 h2 e6) (wA_l q269) q270 q75 q271 hy_40 ⟨Nat.le_of_ble_eq_true rfl, Nat.le_of_ble_eq_true rfl⟩ rfl rfl (Nat.le_of_ble_eq_true rfl) dX1_number_7 rfl (kU ?_) kN
    refine v_iload_n (pc' := 11) hc_X1_number dX1_number_10 rfl rfl 1 rfl ?_
    rcases ite_cs e with ⟨n13, e⟩ | ⟨n13, e⟩
    · refine v_tbl (off := 77) (pt := 88) hc_X1_number dX1_number_11 rfl rfl (by rw [n13]; rfl) rfl ?_
      refine v_aload_n (pc' := 89) hc_X1_number dX1_number_88 rfl rfl 0 rfl ?_
      refine v_gfR (pc' := 92) hc_X1_number ho_X1_number KX1 0 (Nat.le_of_ble_eq_true rfl) q235 (Or.inl rfl) dX1_number_89 rfl e (fun v7 _ e => ?_)
      refine v_gnR (pc' := 95) hc_X1_number ho_X1_number KX2 0 (Nat.le_of_ble_eq_true rfl) q165 rfl dX1_number_92 rfl e (fun v8 _ e => ?_)
      obtain ⟨c9, e⟩ := gd_of e
      obtain ⟨r10, h11, e12, e⟩ := bd2_of e
      refine k_F (pc' := 100) (x := ⟨"java/util/List", "size", "()I"⟩) (y := ⟨"java/util/ArrayList", "size", "()I"⟩) (ci := 16) (n := 0) hc_X1_number ho_X1_number rfl c9 (w_J2_size D l hl v8 h5 e12) (wA_l q344) (by decide +kernel) q348 q350 q79 q352 hy_19 ⟨Nat.le_of_ble_eq_true rfl, Nat.le_of_ble_eq_true rfl⟩ rfl rfl (Nat.le_of_ble_eq_true rfl) dX1_number_95 rfl (kS ?_) kN
      obtain ⟨rfl, rfl⟩ := ret_of e
      exact v_iret hc_X1_number rfl dX1_number_100 rfl rfl
    rcases ite_cs e with ⟨n20, e⟩ | ⟨n20, e⟩
    · refine v_tbl (off := 90) (pt := 101) hc_X1_number dX1_number_11 rfl rfl (by rw [n20]; rfl) rfl ?_
      refine v_aload_n (pc' := 102) hc_X1_number dX1_number_101 rfl rfl 0 rfl ?_
      refine v_gfR (pc' := 105) hc_X1_number ho_X1_number KX1 0 (Nat.le_of_ble_eq_true rfl) q235 (Or.inl rfl) dX1_number_102 rfl e (fun v14 _ e => ?_)
      refine v_gnR (pc' := 108) hc_X1_number ho_X1_number KX2 1 (Nat.le_of_ble_eq_true rfl) q167 rfl dX1_number_105 rfl e (fun v15 _ e => ?_)
      obtain ⟨c16, e⟩ := gd_of e
      obtain ⟨r17, h18, e19, e⟩ := bd2_of e
      refine k_F (pc' := 113) (x := ⟨"java/util/List", "size", "()I"⟩) (y := ⟨"java/util/ArrayList", "size", "()I"⟩) (ci := 16) (n := 0) hc_X1_number ho_X1_number rfl c16 (w_J2_size D l hl v15 h5 e19) (wA_l q344) (by decide +kernel) q348 q350 q79 q352 hy_19 ⟨Nat.le_of_ble_eq_true rfl, Nat.le_of_ble_eq_true rfl⟩ rfl rfl (Nat.le_of_ble_eq_true rfl) dX1_number_108 rfl (kS ?_) kN
      obtain ⟨rfl, rfl⟩ := ret_of e
      exact v_iret hc_X1_number rfl dX1_number_113 rfl rfl
    rcases ite_cs e with ⟨n27, e⟩ | ⟨n27, e⟩
    · refine v_tbl (off := 103) (pt := 114) hc_X1_number dX1_number_11 rfl rfl (by rw [n27]; rfl) rfl ?_
      refine v_aload_n (pc' := 115) hc_X1_number dX1_number_114 rfl rfl 0 rfl ?_
      refine v_gfR (pc' := 118) hc_X1_number ho_X1_number KX1 0 (Nat.le_of_ble_eq_true rfl) q235 (Or.inl rfl) dX1_number_115 rfl e (fun v21 _ e => ?_)
      refine v_gnR (pc' := 121) hc_X1_number ho_X1_number KX2 2 (Nat.le_of_ble_eq_true rfl) q170 rfl dX1_number_118 rfl e (fun v22 _ e => ?_)
      obtain ⟨c23, e⟩ := gd_of e
      obtain ⟨r24, h25, e26, e⟩ := bd2_of e
      refine k_F (pc' := 126) (x := ⟨"java/util/List", "size", "()I"⟩) (y := ⟨"java/util/ArrayList", "size", "()I"⟩) (ci := 16) (n := 0) hc_X1_number ho_X1_number rfl c23 (w_J2_size D l hl v22 h5 e26) (wA_l q344) (by decide +kernel) q348 q350 q79 q352 hy_19 ⟨Nat.le_of_ble_eq_true rfl, Nat.le_of_ble_eq_true rfl⟩ rfl rfl (Nat.le_of_ble_eq_true rfl) dX1_number_121 rfl (kS ?_) kN
      obtain ⟨rfl, rfl⟩ := ret_of e
      exact v_iret hc_X1_number rfl dX1_number_126 rfl rfl
    rcases ite_cs e with ⟨n32, e⟩ | ⟨n32, e⟩
    · refine v_tbl (off := 116) (pt := 127) hc_X1_number dX1_number_11 rfl rfl (by rw [n32]; rfl) rfl ?_
      refine v_aload_n (pc' := 128) hc_X1_number dX1_number_127 rfl rfl 0 rfl ?_
      obtain ⟨c28, e⟩ := gd_of e
      obtain ⟨r29, h30, e31, e⟩ := bd2_of e
      refine k_V (pc' := 131) (ci := 0) (n := 0) hc_X1_number ho_X1_number rfl c28 (w_X1_back D l hl x0 h5 e31) (wA_l q353) q355 (wA_l qs1) q75 q356 hy_270 ⟨Nat.le_of_ble_eq_true rfl, Nat.le_of_ble_eq_true rfl⟩ rfl rfl (Nat.le_of_ble_eq_true rfl) dX1_number_128 rfl (kS ?_) kN
      obtain ⟨rfl, rfl⟩ := ret_of e
      exact v_iret hc_X1_number rfl dX1_number_131 rfl rfl
    rcases ite_cs e with ⟨n39, e⟩ | ⟨n39, e⟩
    · refine v_tbl (off := 121) (pt := 132) hc_X1_number dX1_number_11 rfl rfl (by rw [n39]; rfl) rfl ?_
      refine v_aload_n (pc' := 133) hc_X1_number dX1_number_132 rfl rfl 0 rfl ?_
      refine v_gfR (pc' := 136) hc_X1_number ho_X1_number KX1 0 (Nat.le_of_ble_eq_true rfl) q235 (Or.inl rfl) dX1_number_133 rfl e (fun v33 _ e => ?_)
      refine v_gnR (pc' := 139) hc_X1_number ho_X1_number KX2 3 (Nat.le_of_ble_eq_true rfl) q173 rfl dX1_number_136 rfl e (fun v34 _ e => ?_)
      obtain ⟨c35, e⟩ := gd_of e
      obtain ⟨r36, h37, e38, e⟩ := bd2_of e
      refine k_F (pc' := 144) (x := ⟨"java/util/List", "size", "()I"⟩) (y := ⟨"java/util/ArrayList", "size", "()I"⟩) (ci := 16) (n := 0) hc_X1_number ho_X1_number rfl c35 (w_J2_size D l hl v34 h5 e38) (wA_l q344) (by decide +kernel) q348 q350 q79 q352 hy_19 ⟨Nat.le_of_ble_eq_true rfl, Nat.le_of_ble_eq_true rfl⟩ rfl rfl (Nat.le_of_ble_eq_true rfl) dX1_number_139 rfl (kS ?_) kN
      obtain ⟨rfl, rfl⟩ := ret_of e
      exact v_iret hc_X1_number rfl dX1_number_144 rfl rfl
    rcases ite_cs e with ⟨n46, e⟩ | ⟨n46, e⟩
    · refine v_tbl (off := 134) (pt := 145) hc_X1_number dX1_number_11 rfl rfl (by rw [n46]; rfl) rfl ?_
      refine v_aload_n (pc' := 146) hc_X1_number dX1_number_145 rfl rfl 0 rfl ?_
      refine v_gfR (pc' := 149) hc_X1_number ho_X1_number KX1 0 (Nat.le_of_ble_eq_true rfl) q235 (Or.inl rfl) dX1_number_146 rfl e (fun v40 _ e => ?_)
      refine v_iconst (pc' := 150) (v := (-1)) hc_X1_number dX1_number_149 rfl rfl ?_
      obtain ⟨c41, e⟩ := gd_of e
      rcases bdX_of e with ⟨r42, h43, e44, e⟩ | ⟨zq45, h43, e44, e⟩
      · refine k_V (pc' := 153) (ci := 1) (n := 1) hc_X1_number ho_X1_number rfl c41 (w_X2_hangOf D l hl v40 (-1 : Int32) h5 e44) (wA_l q468) q469 (wA_l q470) q76 q471 hy_161 ⟨Nat.le_of_ble_eq_true rfl, Nat.le_of_ble_eq_true rfl⟩ rfl rfl (Nat.le_of_ble_eq_true rfl) dX1_number_150 rfl (kS ?_) kN
        obtain ⟨rfl, rfl⟩ := ret_of e
        exact v_iret hc_X1_number rfl dX1_number_153 rfl rfl
      · refine k_V (pc' := 153) (ci := 1) (n := 1) hc_X1_number ho_X1_number rfl c41 (w_X2_hangOf D l hl v40 (-1 : Int32) h5 e44) (wA_l q468) q469 (wA_l q470) q76 q471 hy_161 ⟨Nat.le_of_ble_eq_true rfl, Nat.le_of_ble_eq_true rfl⟩ rfl rfl (Nat.le_of_ble_eq_true rfl) dX1_number_150 rfl kM (kX ?_)
        exact v_outA (hp_X1_number _) rfl rfl e
    rcases ite_cs e with ⟨n52, e⟩ | ⟨n52, e⟩
    · refine v_tbl (off := 143) (pt := 154) hc_X1_number dX1_number_11 rfl rfl (by rw [n52]; rfl) rfl ?_
      refine v_aload_n (pc' := 155) hc_X1_number dX1_number_154 rfl rfl 0 rfl ?_
      refine v_gfR (pc' := 158) hc_X1_number ho_X1_number KX1 0 (Nat.le_of_ble_eq_true rfl) q235 (Or.inl rfl) dX1_number_155 rfl e (fun v47 _ e => ?_)
      refine v_iload_n (pc' := 159) hc_X1_number dX1_number_158 rfl rfl 1 rfl ?_
      obtain ⟨c48, e⟩ := gd_of e
      obtain ⟨r49, h50, e51, e⟩ := bd2_of e
      refine k_V (pc' := 162) (ci := 1) (n := 1) hc_X1_number ho_X1_number rfl c48 (w_X2_ofRolls D l hl v47 x1 h5 e51) (wA_l q508) q509 (wA_l q510) q76 q511 hy_271 ⟨Nat.le_of_ble_eq_true rfl, Nat.le_of_ble_eq_true rfl⟩ rfl rfl (Nat.le_of_ble_eq_true rfl) dX1_number_159 rfl (kS ?_) kN
      obtain ⟨rfl, rfl⟩ := ret_of e
      exact v_iret hc_X1_number rfl dX1_number_162 rfl rfl
    rcases ite_cs e with ⟨n58, e⟩ | ⟨n58, e⟩
    · refine v_tbl (off := 143) (pt := 154) hc_X1_number dX1_number_11 rfl rfl (by rw [n58]; rfl) rfl ?_
      refine v_aload_n (pc' := 155) hc_X1_number dX1_number_154 rfl rfl 0 rfl ?_
      refine v_gfR (pc' := 158) hc_X1_number ho_X1_number KX1 0 (Nat.le_of_ble_eq_true rfl) q235 (Or.inl rfl) dX1_number_155 rfl e (fun v53 _ e => ?_)
      refine v_iload_n (pc' := 159) hc_X1_number dX1_number_158 rfl rfl 1 rfl ?_
      obtain ⟨c54, e⟩ := gd_of e
      obtain ⟨r55, h56, e57, e⟩ := bd2_of e
      refine k_V (pc' := 162) (ci := 1) (n := 1) hc_X1_number ho_X1_number rfl c54 (w_X2_ofRolls D l hl v53 x1 h5 e57) (wA_l q508) q509 (wA_l q510) q76 q511 hy_271 ⟨Nat.le_of_ble_eq_true rfl, Nat.le_of_ble_eq_true rfl⟩ rfl rfl (Nat.le_of_ble_eq_true rfl) dX1_number_159 rfl (kS ?_) kN
      obtain ⟨rfl, rfl⟩ := ret_of e
      exact v_iret hc_X1_number rfl dX1_number_162 rfl rfl
    rcases ite_cs e with ⟨n64, e⟩ | ⟨n64, e⟩
    · refine v_tbl (off := 143) (pt := 154) hc_X1_number dX1_number_11 rfl rfl (by rw [n64]; rfl) rfl ?_
      refine v_aload_n (pc' := 155) hc_X1_number dX1_number_154 rfl rfl 0 rfl ?_
      refine v_gfR (pc' := 158) hc_X1_number ho_X1_number KX1 0 (Nat.le_of_ble_eq_true rfl) q235 (Or.inl rfl) dX1_number_155 rfl e (fun v59 _ e => ?_)
      refine v_iload_n (pc' := 159) hc_X1_number dX1_number_158 rfl rfl 1 rfl ?_
      obtain ⟨c60, e⟩ := gd_of e
      obtain ⟨r61, h62, e63, e⟩ := bd2_of e
      refine k_V (pc' := 162) (ci := 1) (n := 1) hc_X1_number ho_X1_number rfl c60 (w_X2_ofRolls D l hl v59 x1 h5 e63) (wA_l q508) q509 (wA_l q510) q76 q511 hy_271 ⟨Nat.le_of_ble_eq_true rfl, Nat.le_of_ble_eq_true rfl⟩ rfl rfl (Nat.le_of_ble_eq_true rfl) dX1_number_159 rfl (kS ?_) kN
      obtain ⟨rfl, rfl⟩ := ret_of e
      exact v_iret hc_X1_number rfl dX1_number_162 rfl rfl
    rcases ite_cs e with ⟨n69, e⟩ | ⟨n69, e⟩
    · refine v_tbl (off := 152) (pt := 163) hc_X1_number dX1_number_11 rfl rfl (by rw [n69]; rfl) rfl ?_
      refine v_aload_n (pc' := 164) hc_X1_number dX1_number_163 rfl rfl 0 rfl ?_
      obtain ⟨c65, e⟩ := gd_of e
      obtain ⟨r66, h67, e68, e⟩ := bd2_of e
      refine k_V (pc' := 167) (ci := 0) (n := 0) hc_X1_number ho_X1_number rfl c65 (w_X1_grams D l hl x0 h5 e68) (wA_l q521) q523 (wA_l qs2) q75 q524 hy_272 ⟨Nat.le_of_ble_eq_true rfl, Nat.le_of_ble_eq_true rfl⟩ rfl rfl (Nat.le_of_ble_eq_true rfl) dX1_number_164 rfl (kS ?_) kN
      obtain ⟨rfl, rfl⟩ := ret_of e
      exact v_iret hc_X1_number rfl dX1_number_167 rfl rfl
    rcases ite_cs e with ⟨n75, e⟩ | ⟨n75, e⟩
    · refine v_tbl (off := 157) (pt := 168) hc_X1_number dX1_number_11 rfl rfl (by rw [n75]; rfl) rfl ?_
      refine v_aload_n (pc' := 169) hc_X1_number dX1_number_168 rfl rfl 0 rfl ?_
      refine v_gfR (pc' := 172) hc_X1_number ho_X1_number KX1 1 (Nat.le_of_ble_eq_true rfl) q236 (Or.inl rfl) dX1_number_169 rfl e (fun v70 _ e => ?_)
      obtain ⟨c71, e⟩ := gd_of e
      obtain ⟨r72, h73, e74, e⟩ := bd2_of e
      refine k_V (pc' := 175) (ci := 17) (n := 0) hc_X1_number ho_X1_number rfl c71 (w_J3_size D l hl v70 h5 e74) (wA_l q526) q527 (wA_l q528) q80 q529 hy_97 ⟨Nat.le_of_ble_eq_true rfl, Nat.le_of_ble_eq_true rfl⟩ rfl rfl (Nat.le_of_ble_eq_true rfl) dX1_number_172 rfl (kS ?_) kN
      obtain ⟨rfl, rfl⟩ := ret_of e
      exact v_iret hc_X1_number rfl dX1_number_175 rfl rfl
    rcases ite_cs e with ⟨n81, e⟩ | ⟨n81, e⟩
    · refine v_tbl (off := 165) (pt := 176) hc_X1_number dX1_number_11 rfl rfl (by rw [n81]; rfl) rfl ?_
      refine v_aload_n (pc' := 177) hc_X1_number dX1_number_176 rfl rfl 0 rfl ?_
      refine v_gfR (pc' := 180) hc_X1_number ho_X1_number KX1 2 (Nat.le_of_ble_eq_true rfl) q238 (Or.inl rfl) dX1_number_177 rfl e (fun v76 _ e => ?_)
      obtain ⟨c77, e⟩ := gd_of e
      obtain ⟨r78, h79, e80, e⟩ := bd2_of e
      refine k_V (pc' := 183) (ci := 18) (n := 0) hc_X1_number ho_X1_number rfl c77 (w_J5_length D l hl v76 h5 e80) (wA_l q533) q534 (wA_l q535) q82 q536 hy_273 ⟨Nat.le_of_ble_eq_true rfl, Nat.le_of_ble_eq_true rfl⟩ rfl rfl (Nat.le_of_ble_eq_true rfl) dX1_number_180 rfl (kS ?_) kN
      obtain ⟨rfl, rfl⟩ := ret_of e
      exact v_iret hc_X1_number rfl dX1_number_183 rfl rfl
    refine v_tbl (off := 173) (pt := 184) hc_X1_number dX1_number_11 rfl rfl (lk_c (lk_n n13 rfl) (lk_c (lk_n n20 rfl) (lk_c (lk_n n27 rfl) (lk_c (lk_n n32 rfl) (lk_c (lk_n n39 rfl) (lk_c (lk_n n46 rfl) (lk_d (lk_c (lk_n n52 rfl) (lk_d (lk_d (lk_d (lk_c (lk_n n58 rfl) (lk_c (lk_n n64 rfl) (lk_c (lk_n n69 rfl) (lk_c (lk_n n75 rfl) (lk_c (lk_n n81 rfl) lk_z)))))))))))))))) rfl ?_
    refine v_aload_n (pc' := 185) hc_X1_number dX1_number_184 rfl rfl 0 rfl ?_
    refine v_gfR (pc' := 188) hc_X1_number ho_X1_number KX1 0 (Nat.le_of_ble_eq_true rfl) q235 (Or.inl rfl) dX1_number_185 rfl e (fun v82 _ e => ?_)
    refine v_iload_n (pc' := 189) hc_X1_number dX1_number_188 rfl rfl 1 rfl ?_
    obtain ⟨c83, e⟩ := gd_of e
    obtain ⟨r84, h85, e86, e⟩ := bd2_of e
    refine k_V (pc' := 192) (ci := 1) (n := 1) hc_X1_number ho_X1_number rfl c83 (w_X2_ofRooms D l hl v82 x1 h5 e86) (wA_l q540) q541 (wA_l q542) q76 q543 hy_274 ⟨Nat.le_of_ble_eq_true rfl, Nat.le_of_ble_eq_true rfl⟩ rfl rfl (Nat.le_of_ble_eq_true rfl) dX1_number_189 rfl (kS ?_) kN
    obtain ⟨rfl, rfl⟩ := ret_of e
    exact v_iret hc_X1_number rfl dX1_number_192 rfl rfl
  · refine k_S (pc' := 10) (n := 1) hc_X1_number ho_X1_number (w_X1_require D l hl r1 h2 e6) (wA_l q269) q270 q75 q271 hy_40 ⟨Nat.le_of_ble_eq_true rfl, Nat.le_of_ble_eq_true rfl⟩ rfl rfl (Nat.le_of_ble_eq_true rfl) dX1_number_7 rfl kM (kX ?_)
    exact v_outA (hp_X1_number _) rfl rfl e
theorem w_X1_number (D : va_G) (l : Launch) (hl : l.stackTraces = false) (x0 : Nat) (x1 : Int32) (h : AH) {r : (Int32 ⊕ Nat)} {hF : AH} (e : f_X1_number x0 x1 h = some (r, hF)) : MetV D l yX1_number (Cond.code yX1_number cX1_number 2 (Option.some .int)) 10 196 [.ref x0, .int x1] h hF ((oX oI) r) :=
  met_ofF (by decide +kernel) hl (Nat.le_of_ble_eq_true rfl) rfl (v_X1_number D l hl [.ref x0, .int x1] h x0 x1 h e)
/-! BlockPapers.printedAgain()I  -/
abbrev G_X1_printedAgain (D : va_G) (l : Launch) (as : List Value) (h0 hF : AH) (o : Out) : CT := (D, l, (yX1_printedAgain.cls, yX1_printedAgain, cX1_printedAgain, 1, (Option.some .int), 11, 217, []), as, h0, hF, o)
theorem hc_X1_printedAgain {D : va_G} {l : Launch} {as : List Value} {h0 hF : AH} {o : Out} : gC (G_X1_printedAgain D l as h0 hF o) = cX1_printedAgain := rfl
theorem ho_X1_printedAgain {D : va_G} {l : Launch} {as : List Value} {h0 hF : AH} {o : Out} : gO (G_X1_printedAgain D l as h0 hF o) = "BlockPapers" := rfl
theorem hp_X1_printedAgain {D : va_G} {l : Launch} {as : List Value} {h0 hF : AH} {o : Out} (pc : Nat) : ∀ z ∈ tableOf (gHd (G_X1_printedAgain D l as h0 hF o)), covers z pc = false := hpN
def f_X1_printedAgain (x0 : Nat) (h : AH) : Option ((Int32 ⊕ Nat) × AH) :=
  gd (isC h 0 x0) <|
  bdX (f_X1_number x0 (8 : Int32) h) (fun zq25 h3 =>
    outX h3 zq25
  ) fun r2 h3 =>
  gd (isC h3 0 x0) <|
  bdX (f_X1_number x0 (9 : Int32) h3) (fun zq24 h7 =>
    outX h7 zq24
  ) fun r6 h7 =>
  gd (isC h7 0 x0) <|
  bdX (f_X1_number x0 (10 : Int32) h7) (fun zq23 h11 =>
    outX h11 zq23
  ) fun r10 h11 =>
  gd (isC h11 0 x0) <|
  bdX (f_X1_number x0 (11 : Int32) h11) (fun zq22 h15 =>
    outX h15 zq22
  ) fun r14 h15 =>
  gd (isC h15 0 x0) <|
  bdX (f_X1_number x0 (12 : Int32) h15) (fun zq21 h19 =>
    outX h19 zq21
  ) fun r18 h19 =>
  some (.inl ((((r2 + r6) + r10) + r14) + r18), h19)
theorem v_X1_printedAgain (D : va_G) (l : Launch) (hl : l.stackTraces = false) (as : List Value) (h0 : AH) {r : (Int32 ⊕ Nat)} {hF : AH} (x0 : Nat) (h : AH) (e : f_X1_printedAgain x0 h = some (r, hF)) : V (G_X1_printedAgain D l as h0 hF ((oX oI) r)) h 0 [(0, .ref x0)] [] := by
  unfold f_X1_printedAgain at e
  refine v_aload_n (pc' := 1) hc_X1_printedAgain dX1_printedAgain_0 rfl rfl 0 rfl ?_
  refine v_bipush (pc' := 3) (v := 8) hc_X1_printedAgain dX1_printedAgain_1 rfl rfl ?_
  obtain ⟨c1, e⟩ := gd_of e
  rcases bdX_of e with ⟨r2, h3, e4, e⟩ | ⟨zq25, h3, e4, e⟩
  · refine k_V (pc' := 6) (ci := 0) (n := 1) hc_X1_printedAgain ho_X1_printedAgain rfl c1 (w_X1_number D l hl x0 (8 : Int32) h e4) (wA_l q262) q263 (wA_l q264) q75 q265 hy_275 ⟨Nat.le_of_ble_eq_true rfl, Nat.le_of_ble_eq_true rfl⟩ rfl rfl (Nat.le_of_ble_eq_true rfl) dX1_printedAgain_3 rfl (kS ?_) kN
    refine v_aload_n (pc' := 7) hc_X1_printedAgain dX1_printedAgain_6 rfl rfl 0 rfl ?_
    refine v_bipush (pc' := 9) (v := 9) hc_X1_printedAgain dX1_printedAgain_7 rfl rfl ?_
    obtain ⟨c5, e⟩ := gd_of e
    rcases bdX_of e with ⟨r6, h7, e8, e⟩ | ⟨zq24, h7, e8, e⟩
    · refine k_V (pc' := 12) (ci := 0) (n := 1) hc_X1_printedAgain ho_X1_printedAgain rfl c5 (w_X1_number D l hl x0 (9 : Int32) h3 e8) (wA_l q262) q263 (wA_l q264) q75 q265 hy_275 ⟨Nat.le_of_ble_eq_true rfl, Nat.le_of_ble_eq_true rfl⟩ rfl rfl (Nat.le_of_ble_eq_true rfl) dX1_printedAgain_9 rfl (kS ?_) kN
      refine v_iadd (pc' := 13) hc_X1_printedAgain dX1_printedAgain_12 rfl ?_
      refine v_aload_n (pc' := 14) hc_X1_printedAgain dX1_printedAgain_13 rfl rfl 0 rfl ?_
      refine v_bipush (pc' := 16) (v := 10) hc_X1_printedAgain dX1_printedAgain_14 rfl rfl ?_
      obtain ⟨c9, e⟩ := gd_of e
      rcases bdX_of e with ⟨r10, h11, e12, e⟩ | ⟨zq23, h11, e12, e⟩
      · refine k_V (pc' := 19) (ci := 0) (n := 1) hc_X1_printedAgain ho_X1_printedAgain rfl c9 (w_X1_number D l hl x0 (10 : Int32) h7 e12) (wA_l q262) q263 (wA_l q264) q75 q265 hy_275 ⟨Nat.le_of_ble_eq_true rfl, Nat.le_of_ble_eq_true rfl⟩ rfl rfl (Nat.le_of_ble_eq_true rfl) dX1_printedAgain_16 rfl (kS ?_) kN
        refine v_iadd (pc' := 20) hc_X1_printedAgain dX1_printedAgain_19 rfl ?_
        refine v_aload_n (pc' := 21) hc_X1_printedAgain dX1_printedAgain_20 rfl rfl 0 rfl ?_
        refine v_bipush (pc' := 23) (v := 11) hc_X1_printedAgain dX1_printedAgain_21 rfl rfl ?_
        obtain ⟨c13, e⟩ := gd_of e
        rcases bdX_of e with ⟨r14, h15, e16, e⟩ | ⟨zq22, h15, e16, e⟩
        · refine k_V (pc' := 26) (ci := 0) (n := 1) hc_X1_printedAgain ho_X1_printedAgain rfl c13 (w_X1_number D l hl x0 (11 : Int32) h11 e16) (wA_l q262) q263 (wA_l q264) q75 q265 hy_275 ⟨Nat.le_of_ble_eq_true rfl, Nat.le_of_ble_eq_true rfl⟩ rfl rfl (Nat.le_of_ble_eq_true rfl) dX1_printedAgain_23 rfl (kS ?_) kN
          refine v_iadd (pc' := 27) hc_X1_printedAgain dX1_printedAgain_26 rfl ?_
          refine v_aload_n (pc' := 28) hc_X1_printedAgain dX1_printedAgain_27 rfl rfl 0 rfl ?_
          refine v_bipush (pc' := 30) (v := 12) hc_X1_printedAgain dX1_printedAgain_28 rfl rfl ?_
          obtain ⟨c17, e⟩ := gd_of e
          rcases bdX_of e with ⟨r18, h19, e20, e⟩ | ⟨zq21, h19, e20, e⟩
          · refine k_V (pc' := 33) (ci := 0) (n := 1) hc_X1_printedAgain ho_X1_printedAgain rfl c17 (w_X1_number D l hl x0 (12 : Int32) h15 e20) (wA_l q262) q263 (wA_l q264) q75 q265 hy_275 ⟨Nat.le_of_ble_eq_true rfl, Nat.le_of_ble_eq_true rfl⟩ rfl rfl (Nat.le_of_ble_eq_true rfl) dX1_printedAgain_30 rfl (kS ?_) kN
            refine v_iadd (pc' := 34) hc_X1_printedAgain dX1_printedAgain_33 rfl ?_
            obtain ⟨rfl, rfl⟩ := ret_of e
            exact v_iret hc_X1_printedAgain rfl dX1_printedAgain_34 rfl rfl
          · refine k_V (pc' := 33) (ci := 0) (n := 1) hc_X1_printedAgain ho_X1_printedAgain rfl c17 (w_X1_number D l hl x0 (12 : Int32) h15 e20) (wA_l q262) q263 (wA_l q264) q75 q265 hy_275 ⟨Nat.le_of_ble_eq_true rfl, Nat.le_of_ble_eq_true rfl⟩ rfl rfl (Nat.le_of_ble_eq_true rfl) dX1_printedAgain_30 rfl kM (kX ?_)
            exact v_outA (hp_X1_printedAgain _) rfl rfl e
        · refine k_V (pc' := 26) (ci := 0) (n := 1) hc_X1_printedAgain ho_X1_printedAgain rfl c13 (w_X1_number D l hl x0 (11 : Int32) h11 e16) (wA_l q262) q263 (wA_l q264) q75 q265 hy_275 ⟨Nat.le_of_ble_eq_true rfl, Nat.le_of_ble_eq_true rfl⟩ rfl rfl (Nat.le_of_ble_eq_true rfl) dX1_printedAgain_23 rfl kM (kX ?_)
          exact v_outA (hp_X1_printedAgain _) rfl rfl e
      · refine k_V (pc' := 19) (ci := 0) (n := 1) hc_X1_printedAgain ho_X1_printedAgain rfl c9 (w_X1_number D l hl x0 (10 : Int32) h7 e12) (wA_l q262) q263 (wA_l q264) q75 q265 hy_275 ⟨Nat.le_of_ble_eq_true rfl, Nat.le_of_ble_eq_true rfl⟩ rfl rfl (Nat.le_of_ble_eq_true rfl) dX1_printedAgain_16 rfl kM (kX ?_)
        exact v_outA (hp_X1_printedAgain _) rfl rfl e
    · refine k_V (pc' := 12) (ci := 0) (n := 1) hc_X1_printedAgain ho_X1_printedAgain rfl c5 (w_X1_number D l hl x0 (9 : Int32) h3 e8) (wA_l q262) q263 (wA_l q264) q75 q265 hy_275 ⟨Nat.le_of_ble_eq_true rfl, Nat.le_of_ble_eq_true rfl⟩ rfl rfl (Nat.le_of_ble_eq_true rfl) dX1_printedAgain_9 rfl kM (kX ?_)
      exact v_outA (hp_X1_printedAgain _) rfl rfl e
  · refine k_V (pc' := 6) (ci := 0) (n := 1) hc_X1_printedAgain ho_X1_printedAgain rfl c1 (w_X1_number D l hl x0 (8 : Int32) h e4) (wA_l q262) q263 (wA_l q264) q75 q265 hy_275 ⟨Nat.le_of_ble_eq_true rfl, Nat.le_of_ble_eq_true rfl⟩ rfl rfl (Nat.le_of_ble_eq_true rfl) dX1_printedAgain_3 rfl kM (kX ?_)
    exact v_outA (hp_X1_printedAgain _) rfl rfl e
theorem w_X1_printedAgain (D : va_G) (l : Launch) (hl : l.stackTraces = false) (x0 : Nat) (h : AH) {r : (Int32 ⊕ Nat)} {hF : AH} (e : f_X1_printedAgain x0 h = some (r, hF)) : MetV D l yX1_printedAgain (Cond.code yX1_printedAgain cX1_printedAgain 1 (Option.some .int)) 11 217 [.ref x0] h hF ((oX oI) r) :=
  met_ofF (by decide +kernel) hl (Nat.le_of_ble_eq_true rfl) rfl (v_X1_printedAgain D l hl [.ref x0] h x0 h e)
/-! BlockPapers.meanShade()D  -/
abbrev G_X1_meanShade (D : va_G) (l : Launch) (as : List Value) (h0 hF : AH) (o : Out) : CT := (D, l, (yX1_meanShade.cls, yX1_meanShade, cX1_meanShade, 4, (Option.some .double), 6, 90, []), as, h0, hF, o)
theorem hc_X1_meanShade {D : va_G} {l : Launch} {as : List Value} {h0 hF : AH} {o : Out} : gC (G_X1_meanShade D l as h0 hF o) = cX1_meanShade := rfl
theorem ho_X1_meanShade {D : va_G} {l : Launch} {as : List Value} {h0 hF : AH} {o : Out} : gO (G_X1_meanShade D l as h0 hF o) = "BlockPapers" := rfl
theorem hp_X1_meanShade {D : va_G} {l : Launch} {as : List Value} {h0 hF : AH} {o : Out} (pc : Nat) : ∀ z ∈ tableOf (gHd (G_X1_meanShade D l as h0 hF o)), covers z pc = false := hpN
def fb_X1_meanShade_l38 (rec : Nat → Int32 → Nat → AH → Option ((UInt64 ⊕ Nat) × AH)) (x0 : Nat) (x1 : Int32) (x2 : Nat) (h : AH) : Option ((UInt64 ⊕ Nat) × AH) :=
  gd (isC h 20 x2) <|
  bd2 (f_J19_hasNext x2 h) fun r2 h3 =>
  if r2 = 0 then (
    bd (gtR h3 0 x0 0) fun v5 =>
    bd (gtR h3 1 v5 2) fun v6 =>
    gd (isC h3 16 v6) <|
    bd2 (f_J2_size v6 h3) fun r8 h9 =>
    gd (decide ((FP.ddiv (FP.i2d x1) (FP.i2d r8)) &&& 0x7fffffffffffffff ≤ 0x7ff0000000000000)) <|
    some (.inl (FP.ddiv (FP.i2d x1) (FP.i2d r8)), h9)
  ) else (
    gd (isC h3 20 x2) <|
    bd2 (f_J19_next x2 h3) fun r13 h14 =>
    gd (isC h14 9 r13) <|
    bd (gtI h14 9 r13 3) fun v17 =>
    rec x0 (x1 + v17) x2 h14
  )
def f_X1_meanShade_l38 : Nat → Nat → Int32 → Nat → AH → Option ((UInt64 ⊕ Nat) × AH)
  | 0 => fun _ _ _ _ => none
  | n + 1 => fb_X1_meanShade_l38 (f_X1_meanShade_l38 n) 
theorem w_X1_meanShade_l38 (D : va_G) (l : Launch) (hl : l.stackTraces = false) (as : List Value) (h0 : AH) {r : (UInt64 ⊕ Nat)} {hF : AH} : ∀ (n : Nat) (x0 : Nat) (x1 : Int32) (x2 : Nat) (h : AH), f_X1_meanShade_l38 n x0 x1 x2 h = some (r, hF) → V (G_X1_meanShade D l as h0 hF ((oX oD) r)) h 38 [(0, .ref x0), (1, .int x1), (2, .ref x2)] [] := by
  intro n; induction n with
  | zero => intro x0 x1 x2 h e; exact absurd (show (none : Option ((UInt64 ⊕ Nat) × AH)) = some _ from e) (fun z => nomatch z)
  | succ n IH =>
    intro x0 x1 x2 h e
    have e : fb_X1_meanShade_l38 (f_X1_meanShade_l38 n) x0 x1 x2 h = some (r, hF) := e
    unfold fb_X1_meanShade_l38 at e
    refine v_aload_n (pc' := 39) hc_X1_meanShade dX1_meanShade_38 rfl rfl 2 rfl ?_
    obtain ⟨c1, e⟩ := gd_of e
    obtain ⟨r2, h3, e4, e⟩ := bd2_of e
    refine k_F (pc' := 44) (x := ⟨"java/util/Iterator", "hasNext", "()Z"⟩) (y := ⟨"java/util/ArrayList$Itr", "hasNext", "()Z"⟩) (ci := 20) (n := 0) hc_X1_meanShade ho_X1_meanShade rfl c1 (w_J19_hasNext D l hl x2 h e4) (wA_l q386) (by decide +kernel) q418 q420 q101 q422 hy_109 ⟨Nat.le_of_ble_eq_true rfl, Nat.le_of_ble_eq_true rfl⟩ rfl rfl (Nat.le_of_ble_eq_true rfl) dX1_meanShade_39 rfl (kS ?_) kN
    refine v_if_eq (pt := 67) (pf := 47) hc_X1_meanShade dX1_meanShade_44 rfl rfl e (fun _ e => ?_) (fun _ e => ?_)
    · refine v_iload_n (pc' := 68) hc_X1_meanShade dX1_meanShade_67 rfl rfl 1 rfl ?_
      refine v_i2d (pc' := 69) hc_X1_meanShade dX1_meanShade_68 rfl ?_
      refine v_aload_n (pc' := 70) hc_X1_meanShade dX1_meanShade_69 rfl rfl 0 rfl ?_
      refine v_gfR (pc' := 73) hc_X1_meanShade ho_X1_meanShade KX1 0 (Nat.le_of_ble_eq_true rfl) q235 (Or.inl rfl) dX1_meanShade_70 rfl e (fun v5 _ e => ?_)
      refine v_gnR (pc' := 76) hc_X1_meanShade ho_X1_meanShade KX2 2 (Nat.le_of_ble_eq_true rfl) q170 rfl dX1_meanShade_73 rfl e (fun v6 _ e => ?_)
      obtain ⟨c7, e⟩ := gd_of e
      obtain ⟨r8, h9, e10, e⟩ := bd2_of e
      refine k_F (pc' := 81) (x := ⟨"java/util/List", "size", "()I"⟩) (y := ⟨"java/util/ArrayList", "size", "()I"⟩) (ci := 16) (n := 0) hc_X1_meanShade ho_X1_meanShade rfl c7 (w_J2_size D l hl v6 h3 e10) (wA_l q344) (by decide +kernel) q348 q350 q79 q352 hy_19 ⟨Nat.le_of_ble_eq_true rfl, Nat.le_of_ble_eq_true rfl⟩ rfl rfl (Nat.le_of_ble_eq_true rfl) dX1_meanShade_76 rfl (kS ?_) kN
      refine v_i2d (pc' := 82) hc_X1_meanShade dX1_meanShade_81 rfl ?_
      obtain ⟨c11, e⟩ := gd_of e
      refine v_ddiv (pc' := 83) hc_X1_meanShade dX1_meanShade_82 rfl (vf64_of c11) ?_
      obtain ⟨rfl, rfl⟩ := ret_of e
      exact v_dret hc_X1_meanShade rfl dX1_meanShade_83 rfl rfl
    · refine v_aload_n (pc' := 48) hc_X1_meanShade dX1_meanShade_47 rfl rfl 2 rfl ?_
      obtain ⟨c12, e⟩ := gd_of e
      obtain ⟨r13, h14, e15, e⟩ := bd2_of e
      refine k_F (pc' := 53) (x := ⟨"java/util/Iterator", "next", "()Ljava/lang/Object;"⟩) (y := ⟨"java/util/ArrayList$Itr", "next", "()Ljava/lang/Object;"⟩) (ci := 20) (n := 0) hc_X1_meanShade ho_X1_meanShade rfl c12 (w_J19_next D l hl x2 h3 e15) (wA_l q424) (by decide +kernel) q456 q458 q101 q460 hy_111 ⟨Nat.le_of_ble_eq_true rfl, Nat.le_of_ble_eq_true rfl⟩ rfl rfl (Nat.le_of_ble_eq_true rfl) dX1_meanShade_48 rfl (kS ?_) kN
      obtain ⟨c16, e⟩ := gd_of e
      refine v_cast (pc' := 56) (ci := 9) hc_X1_meanShade ho_X1_meanShade rfl q467 (Or.inl rfl) dX1_meanShade_53 rfl c16 ?_
      refine v_astore_n (pc' := 57) (lv' := [(3, .ref r13), (0, .ref x0), (1, .int x1), (2, .ref x2)]) hc_X1_meanShade dX1_meanShade_56 rfl rfl (Nat.le_of_ble_eq_true rfl) rfl ?_
      refine v_iload_n (pc' := 58) hc_X1_meanShade dX1_meanShade_57 rfl rfl 2 rfl ?_
      refine v_aload_n (pc' := 59) hc_X1_meanShade dX1_meanShade_58 rfl rfl 0 rfl ?_
      refine v_gnI (pc' := 62) hc_X1_meanShade ho_X1_meanShade KX10 3 (Nat.le_of_ble_eq_true rfl) q1250 rfl dX1_meanShade_59 rfl e (fun v17 _ e => ?_)
      refine v_iadd (pc' := 63) hc_X1_meanShade dX1_meanShade_62 rfl ?_
      refine v_istore_n (pc' := 64) (lv' := [(1, .int (x1 + v17)), (3, .ref r13), (0, .ref x0), (2, .ref x2)]) hc_X1_meanShade dX1_meanShade_63 rfl rfl (Nat.le_of_ble_eq_true rfl) rfl ?_
      refine v_goto (pt := 38) hc_X1_meanShade dX1_meanShade_64 rfl ?_
      refine v_pick [2, 0, 3] rfl ?_
      exact IH x0 (x1 + v17) x2 h14 e
def f_X1_meanShade (x0 : Nat) (h : AH) : Option ((UInt64 ⊕ Nat) × AH) :=
  bd (gtR h 0 x0 0) fun v1 =>
  bd (gtR h 1 v1 2) fun v2 =>
  gd (isC h 16 v2) <|
  bd2 (f_J2_isEmpty v2 h) fun r4 h5 =>
  if r4 = 0 then (
    bd (gtR h5 0 x0 0) fun v7 =>
    bd (gtR h5 1 v7 2) fun v8 =>
    gd (isC h5 16 v8) <|
    bd2 (f_J2_iterator v8 h5) fun r10 h11 =>
    f_X1_meanShade_l38 NN x0 (0 : Int32) r10 h11
  ) else (
    bd2 (nwX h5 25 6 []) fun a14 h13 =>
    outX h13 a14
  )
theorem v_X1_meanShade (D : va_G) (l : Launch) (hl : l.stackTraces = false) (as : List Value) (h0 : AH) {r : (UInt64 ⊕ Nat)} {hF : AH} (x0 : Nat) (h : AH) (e : f_X1_meanShade x0 h = some (r, hF)) : V (G_X1_meanShade D l as h0 hF ((oX oD) r)) h 0 [(0, .ref x0)] [] := by
  unfold f_X1_meanShade at e
  refine v_aload_n (pc' := 1) hc_X1_meanShade dX1_meanShade_0 rfl rfl 0 rfl ?_
  refine v_gfR (pc' := 4) hc_X1_meanShade ho_X1_meanShade KX1 0 (Nat.le_of_ble_eq_true rfl) q235 (Or.inl rfl) dX1_meanShade_1 rfl e (fun v1 _ e => ?_)
  refine v_gnR (pc' := 7) hc_X1_meanShade ho_X1_meanShade KX2 2 (Nat.le_of_ble_eq_true rfl) q170 rfl dX1_meanShade_4 rfl e (fun v2 _ e => ?_)
  obtain ⟨c3, e⟩ := gd_of e
  obtain ⟨r4, h5, e6, e⟩ := bd2_of e
  refine k_F (pc' := 12) (x := ⟨"java/util/List", "isEmpty", "()Z"⟩) (y := ⟨"java/util/ArrayList", "isEmpty", "()Z"⟩) (ci := 16) (n := 0) hc_X1_meanShade ho_X1_meanShade rfl c3 (w_J2_isEmpty D l hl v2 h e6) (wA_l q1914) (by decide +kernel) q1326 q1328 q79 q1330 hy_70 ⟨Nat.le_of_ble_eq_true rfl, Nat.le_of_ble_eq_true rfl⟩ rfl rfl (Nat.le_of_ble_eq_true rfl) dX1_meanShade_7 rfl (kS ?_) kN
  refine v_if_eq (pt := 23) (pf := 15) hc_X1_meanShade dX1_meanShade_12 rfl rfl e (fun _ e => ?_) (fun _ e => ?_)
  · refine v_iconst (pc' := 24) (v := 0) hc_X1_meanShade dX1_meanShade_23 rfl rfl ?_
    refine v_istore_n (pc' := 25) (lv' := [(1, .int (0 : Int32)), (0, .ref x0)]) hc_X1_meanShade dX1_meanShade_24 rfl rfl (Nat.le_of_ble_eq_true rfl) rfl ?_
    refine v_aload_n (pc' := 26) hc_X1_meanShade dX1_meanShade_25 rfl rfl 1 rfl ?_
    refine v_gfR (pc' := 29) hc_X1_meanShade ho_X1_meanShade KX1 0 (Nat.le_of_ble_eq_true rfl) q235 (Or.inl rfl) dX1_meanShade_26 rfl e (fun v7 _ e => ?_)
    refine v_gnR (pc' := 32) hc_X1_meanShade ho_X1_meanShade KX2 2 (Nat.le_of_ble_eq_true rfl) q170 rfl dX1_meanShade_29 rfl e (fun v8 _ e => ?_)
    obtain ⟨c9, e⟩ := gd_of e
    obtain ⟨r10, h11, e12, e⟩ := bd2_of e
    refine k_F (pc' := 37) (x := ⟨"java/util/List", "iterator", "()Ljava/util/Iterator;"⟩) (y := ⟨"java/util/ArrayList", "iterator", "()Ljava/util/Iterator;"⟩) (ci := 16) (n := 0) hc_X1_meanShade ho_X1_meanShade rfl c9 (w_J2_iterator D l hl v8 h5 e12) (wA_l q358) (by decide +kernel) q361 q363 q79 q365 hy_108 ⟨Nat.le_of_ble_eq_true rfl, Nat.le_of_ble_eq_true rfl⟩ rfl rfl (Nat.le_of_ble_eq_true rfl) dX1_meanShade_32 rfl (kS ?_) kN
    refine v_astore_n (pc' := 38) (lv' := [(2, .ref r10), (1, .int (0 : Int32)), (0, .ref x0)]) hc_X1_meanShade dX1_meanShade_37 rfl rfl (Nat.le_of_ble_eq_true rfl) rfl ?_
    refine v_pick [2, 1, 0] rfl ?_
    exact w_X1_meanShade_l38 D l hl as h0 NN x0 (0 : Int32) r10 h11 e
  · refine v_makeX (pc' := 22) (ci := 25) (names := ["java/lang/RuntimeException", "java/lang/Exception"]) hc_X1_meanShade ho_X1_meanShade hl (by decide +kernel) (by decide +kernel) q1915 q117 (by decide +kernel) rfl (by decide) ⟨Nat.le_of_ble_eq_true rfl, Nat.le_of_ble_eq_true rfl⟩ dX1_meanShade_15 dX1_meanShade_18 dX1_meanShade_19 rfl e (fun a14 h13 _ e => ?_)
    refine v_athrow hc_X1_meanShade dX1_meanShade_22 ?_
    exact v_outA (hp_X1_meanShade _) rfl rfl e
theorem w_X1_meanShade (D : va_G) (l : Launch) (hl : l.stackTraces = false) (x0 : Nat) (h : AH) {r : (UInt64 ⊕ Nat)} {hF : AH} (e : f_X1_meanShade x0 h = some (r, hF)) : MetV D l yX1_meanShade (Cond.code yX1_meanShade cX1_meanShade 4 (Option.some .double)) 6 90 [.ref x0] h hF ((oX oD) r) :=
  met_ofF (by decide +kernel) hl (Nat.le_of_ble_eq_true rfl) rfl (v_X1_meanShade D l hl [.ref x0] h x0 h e)
/-! BlockPapers.wasted()F  -/
abbrev G_X1_wasted (D : va_G) (l : Launch) (as : List Value) (h0 hF : AH) (o : Out) : CT := (D, l, (yX1_wasted.cls, yX1_wasted, cX1_wasted, 2, (Option.some .float), 11, 217, []), as, h0, hF, o)
theorem hc_X1_wasted {D : va_G} {l : Launch} {as : List Value} {h0 hF : AH} {o : Out} : gC (G_X1_wasted D l as h0 hF o) = cX1_wasted := rfl
theorem ho_X1_wasted {D : va_G} {l : Launch} {as : List Value} {h0 hF : AH} {o : Out} : gO (G_X1_wasted D l as h0 hF o) = "BlockPapers" := rfl
theorem hp_X1_wasted {D : va_G} {l : Launch} {as : List Value} {h0 hF : AH} {o : Out} (pc : Nat) : ∀ z ∈ tableOf (gHd (G_X1_wasted D l as h0 hF o)), covers z pc = false := hpN
def f_X1_wasted (x0 : Nat) (h : AH) : Option ((UInt32 ⊕ Nat) × AH) :=
  bd (gtR h 0 x0 0) fun v1 =>
  gd (isC h 1 v1) <|
  bd2 (f_X2_ofRolls v1 (5 : Int32) h) fun r3 h4 =>
  if r3 = 0 then (
    bd2 (nwX h4 25 6 []) fun a7 h6 =>
    outX h6 a7
  ) else (
    gd (isC h4 0 x0) <|
    bdX (f_X1_number x0 (9 : Int32) h4) (fun zq13 h10 =>
      outX h10 zq13
    ) fun r9 h10 =>
    gd (decide ((FP.fdiv (FP.i2f r9) (FP.i2f r3)) &&& 0x7fffffff ≤ 0x7f800000)) <|
    some (.inl (FP.fdiv (FP.i2f r9) (FP.i2f r3)), h10)
  )
theorem v_X1_wasted (D : va_G) (l : Launch) (hl : l.stackTraces = false) (as : List Value) (h0 : AH) {r : (UInt32 ⊕ Nat)} {hF : AH} (x0 : Nat) (h : AH) (e : f_X1_wasted x0 h = some (r, hF)) : V (G_X1_wasted D l as h0 hF ((oX oF) r)) h 0 [(0, .ref x0)] [] := by
  unfold f_X1_wasted at e
  refine v_aload_n (pc' := 1) hc_X1_wasted dX1_wasted_0 rfl rfl 0 rfl ?_
  refine v_gfR (pc' := 4) hc_X1_wasted ho_X1_wasted KX1 0 (Nat.le_of_ble_eq_true rfl) q235 (Or.inl rfl) dX1_wasted_1 rfl e (fun v1 _ e => ?_)
  refine v_iconst (pc' := 5) (v := 5) hc_X1_wasted dX1_wasted_4 rfl rfl ?_
  obtain ⟨c2, e⟩ := gd_of e
  obtain ⟨r3, h4, e5, e⟩ := bd2_of e
  refine k_V (pc' := 8) (ci := 1) (n := 1) hc_X1_wasted ho_X1_wasted rfl c2 (w_X2_ofRolls D l hl v1 (5 : Int32) h e5) (wA_l q508) q509 (wA_l q510) q76 q511 hy_271 ⟨Nat.le_of_ble_eq_true rfl, Nat.le_of_ble_eq_true rfl⟩ rfl rfl (Nat.le_of_ble_eq_true rfl) dX1_wasted_5 rfl (kS ?_) kN
  refine v_istore_n (pc' := 9) (lv' := [(1, .int r3), (0, .ref x0)]) hc_X1_wasted dX1_wasted_8 rfl rfl (Nat.le_of_ble_eq_true rfl) rfl ?_
  refine v_iload_n (pc' := 10) hc_X1_wasted dX1_wasted_9 rfl rfl 0 rfl ?_
  refine v_if_ne (pt := 21) (pf := 13) hc_X1_wasted dX1_wasted_10 rfl rfl e (fun _ e => ?_) (fun _ e => ?_)
  · refine v_makeX (pc' := 20) (ci := 25) (names := ["java/lang/RuntimeException", "java/lang/Exception"]) hc_X1_wasted ho_X1_wasted hl (by decide +kernel) (by decide +kernel) q1915 q117 (by decide +kernel) rfl (by decide) ⟨Nat.le_of_ble_eq_true rfl, Nat.le_of_ble_eq_true rfl⟩ dX1_wasted_13 dX1_wasted_16 dX1_wasted_17 rfl e (fun a7 h6 _ e => ?_)
    refine v_athrow hc_X1_wasted dX1_wasted_20 ?_
    exact v_outA (hp_X1_wasted _) rfl rfl e
  · refine v_aload_n (pc' := 22) hc_X1_wasted dX1_wasted_21 rfl rfl 1 rfl ?_
    refine v_bipush (pc' := 24) (v := 9) hc_X1_wasted dX1_wasted_22 rfl rfl ?_
    obtain ⟨c8, e⟩ := gd_of e
    rcases bdX_of e with ⟨r9, h10, e11, e⟩ | ⟨zq13, h10, e11, e⟩
    · refine k_V (pc' := 27) (ci := 0) (n := 1) hc_X1_wasted ho_X1_wasted rfl c8 (w_X1_number D l hl x0 (9 : Int32) h4 e11) (wA_l q262) q263 (wA_l q264) q75 q265 hy_275 ⟨Nat.le_of_ble_eq_true rfl, Nat.le_of_ble_eq_true rfl⟩ rfl rfl (Nat.le_of_ble_eq_true rfl) dX1_wasted_24 rfl (kS ?_) kN
      refine v_i2f (pc' := 28) hc_X1_wasted dX1_wasted_27 rfl ?_
      refine v_iload_n (pc' := 29) hc_X1_wasted dX1_wasted_28 rfl rfl 0 rfl ?_
      refine v_i2f (pc' := 30) hc_X1_wasted dX1_wasted_29 rfl ?_
      obtain ⟨c12, e⟩ := gd_of e
      refine v_fdiv (pc' := 31) hc_X1_wasted dX1_wasted_30 rfl (vf32_of c12) ?_
      obtain ⟨rfl, rfl⟩ := ret_of e
      exact v_fret hc_X1_wasted rfl dX1_wasted_31 rfl rfl
    · refine k_V (pc' := 27) (ci := 0) (n := 1) hc_X1_wasted ho_X1_wasted rfl c8 (w_X1_number D l hl x0 (9 : Int32) h4 e11) (wA_l q262) q263 (wA_l q264) q75 q265 hy_275 ⟨Nat.le_of_ble_eq_true rfl, Nat.le_of_ble_eq_true rfl⟩ rfl rfl (Nat.le_of_ble_eq_true rfl) dX1_wasted_24 rfl kM (kX ?_)
      exact v_outA (hp_X1_wasted _) rfl rfl e
theorem w_X1_wasted (D : va_G) (l : Launch) (hl : l.stackTraces = false) (x0 : Nat) (h : AH) {r : (UInt32 ⊕ Nat)} {hF : AH} (e : f_X1_wasted x0 h = some (r, hF)) : MetV D l yX1_wasted (Cond.code yX1_wasted cX1_wasted 2 (Option.some .float)) 11 217 [.ref x0] h hF ((oX oF) r) :=
  met_ofF (by decide +kernel) hl (Nat.le_of_ble_eq_true rfl) rfl (v_X1_wasted D l hl [.ref x0] h x0 h e)
/-! BlockPapers.requireState(Z)V  -/
abbrev G_X1_requireState (D : va_G) (l : Launch) (as : List Value) (h0 hF : AH) (o : Out) : CT := (D, l, (yX1_requireState.cls, yX1_requireState, cX1_requireState, 1, (Option.none : Option FieldType), 6, 89, []), as, h0, hF, o)
theorem hc_X1_requireState {D : va_G} {l : Launch} {as : List Value} {h0 hF : AH} {o : Out} : gC (G_X1_requireState D l as h0 hF o) = cX1_requireState := rfl
theorem ho_X1_requireState {D : va_G} {l : Launch} {as : List Value} {h0 hF : AH} {o : Out} : gO (G_X1_requireState D l as h0 hF o) = "BlockPapers" := rfl
theorem hp_X1_requireState {D : va_G} {l : Launch} {as : List Value} {h0 hF : AH} {o : Out} (pc : Nat) : ∀ z ∈ tableOf (gHd (G_X1_requireState D l as h0 hF o)), covers z pc = false := hpN
def f_X1_requireState (x0 : Int32) (h : AH) : Option ((Unit ⊕ Nat) × AH) :=
  if x0 = 0 then (
    bd2 (nwX h 23 6 []) fun a2 h1 =>
    outX h1 a2
  ) else (
    some (.inl (), h)
  )
theorem v_X1_requireState (D : va_G) (l : Launch) (hl : l.stackTraces = false) (as : List Value) (h0 : AH) {r : (Unit ⊕ Nat)} {hF : AH} (x0 : Int32) (h : AH) (e : f_X1_requireState x0 h = some (r, hF)) : V (G_X1_requireState D l as h0 hF ((oX oV) r)) h 0 [(0, .int x0)] [] := by
  unfold f_X1_requireState at e
  refine v_iload_n (pc' := 1) hc_X1_requireState dX1_requireState_0 rfl rfl 0 rfl ?_
  refine v_if_ne (pt := 12) (pf := 4) hc_X1_requireState dX1_requireState_1 rfl rfl e (fun _ e => ?_) (fun _ e => ?_)
  · refine v_makeX (pc' := 11) (ci := 23) (names := ["java/lang/RuntimeException", "java/lang/Exception"]) hc_X1_requireState ho_X1_requireState hl (by decide +kernel) (by decide +kernel) q1938 q113 (by decide +kernel) rfl (by decide) ⟨Nat.le_of_ble_eq_true rfl, Nat.le_of_ble_eq_true rfl⟩ dX1_requireState_4 dX1_requireState_7 dX1_requireState_8 rfl e (fun a2 h1 _ e => ?_)
    refine v_athrow hc_X1_requireState dX1_requireState_11 ?_
    exact v_outA (hp_X1_requireState _) rfl rfl e
  · obtain ⟨rfl, rfl⟩ := ret_of e
    exact v_ret hc_X1_requireState rfl dX1_requireState_12 rfl rfl
theorem w_X1_requireState (D : va_G) (l : Launch) (hl : l.stackTraces = false) (x0 : Int32) (h : AH) {r : (Unit ⊕ Nat)} {hF : AH} (e : f_X1_requireState x0 h = some (r, hF)) : MetV D l yX1_requireState (Cond.code yX1_requireState cX1_requireState 1 (Option.none : Option FieldType)) 6 89 [.int x0] h hF ((oX oV) r) :=
  met_ofF (by decide +kernel) hl (Nat.le_of_ble_eq_true rfl) rfl (v_X1_requireState D l hl [.int x0] h x0 h e)
/-! BlockPapers.feed(C)I  -/
abbrev G_X1_feed (D : va_G) (l : Launch) (as : List Value) (h0 hF : AH) (o : Out) : CT := (D, l, (yX1_feed.cls, yX1_feed, cX1_feed, 2, (Option.some .int), 7, 181, []), as, h0, hF, o)
theorem hc_X1_feed {D : va_G} {l : Launch} {as : List Value} {h0 hF : AH} {o : Out} : gC (G_X1_feed D l as h0 hF o) = cX1_feed := rfl
theorem ho_X1_feed {D : va_G} {l : Launch} {as : List Value} {h0 hF : AH} {o : Out} : gO (G_X1_feed D l as h0 hF o) = "BlockPapers" := rfl
theorem hp_X1_feed {D : va_G} {l : Launch} {as : List Value} {h0 hF : AH} {o : Out} (pc : Nat) : ∀ z ∈ tableOf (gHd (G_X1_feed D l as h0 hF o)), covers z pc = false := hpN
def f_X1_feed_j17 (x0 : Nat) (x1 : Int32) (s0 : Int32) (h : AH) : Option ((Int32 ⊕ Nat) × AH) :=
  bdX (f_X1_requireState s0 h) (fun zq14 h2 =>
    outX h2 zq14
  ) fun r1 h2 =>
  bd (gtR h2 0 x0 2) fun v4 =>
  gd (isC h2 18 v4) <|
  bd2 (f_J5_append_7 v4 x1 h2) fun r6 h7 =>
  bd (gtR h7 0 x0 2) fun v9 =>
  gd (isC h7 18 v9) <|
  bd2 (f_J5_length v9 h7) fun r11 h12 =>
  some (.inl r11, h12)
theorem w_X1_feed_j17 (D : va_G) (l : Launch) (hl : l.stackTraces = false) (as : List Value) (h0 : AH) {r : (Int32 ⊕ Nat)} {hF : AH} (x0 : Nat) (x1 : Int32) (s0 : Int32) (h : AH) (e : f_X1_feed_j17 x0 x1 s0 h = some (r, hF)) : V (G_X1_feed D l as h0 hF ((oX oI) r)) h 17 [(0, .ref x0), (1, .int x1)] [.int s0] := by
  unfold f_X1_feed_j17 at e
  rcases bdX_of e with ⟨r1, h2, e3, e⟩ | ⟨zq14, h2, e3, e⟩
  · refine k_S (pc' := 20) (n := 1) hc_X1_feed ho_X1_feed (w_X1_requireState D l hl s0 h e3) (wA_l q1935) q1936 q75 q1937 hy_292 ⟨Nat.le_of_ble_eq_true rfl, Nat.le_of_ble_eq_true rfl⟩ rfl rfl (Nat.le_of_ble_eq_true rfl) dX1_feed_17 rfl (kU ?_) kN
    refine v_aload_n (pc' := 21) hc_X1_feed dX1_feed_20 rfl rfl 0 rfl ?_
    refine v_gfR (pc' := 24) hc_X1_feed ho_X1_feed KX1 2 (Nat.le_of_ble_eq_true rfl) q238 (Or.inl rfl) dX1_feed_21 rfl e (fun v4 _ e => ?_)
    refine v_iload_n (pc' := 25) hc_X1_feed dX1_feed_24 rfl rfl 1 rfl ?_
    obtain ⟨c5, e⟩ := gd_of e
    obtain ⟨r6, h7, e8, e⟩ := bd2_of e
    refine k_V (pc' := 28) (ci := 18) (n := 1) hc_X1_feed ho_X1_feed rfl c5 (w_J5_append_7 D l hl v4 x1 h2 e8) (wA_l q1943) q1944 (wA_l q1945) q82 q1946 hy_299 ⟨Nat.le_of_ble_eq_true rfl, Nat.le_of_ble_eq_true rfl⟩ rfl rfl (Nat.le_of_ble_eq_true rfl) dX1_feed_25 rfl (kS ?_) kN
    refine v_pop (pc' := 29) hc_X1_feed dX1_feed_28 rfl rfl ?_
    refine v_aload_n (pc' := 30) hc_X1_feed dX1_feed_29 rfl rfl 0 rfl ?_
    refine v_gfR (pc' := 33) hc_X1_feed ho_X1_feed KX1 2 (Nat.le_of_ble_eq_true rfl) q238 (Or.inl rfl) dX1_feed_30 rfl e (fun v9 _ e => ?_)
    obtain ⟨c10, e⟩ := gd_of e
    obtain ⟨r11, h12, e13, e⟩ := bd2_of e
    refine k_V (pc' := 36) (ci := 18) (n := 0) hc_X1_feed ho_X1_feed rfl c10 (w_J5_length D l hl v9 h7 e13) (wA_l q533) q534 (wA_l q535) q82 q536 hy_273 ⟨Nat.le_of_ble_eq_true rfl, Nat.le_of_ble_eq_true rfl⟩ rfl rfl (Nat.le_of_ble_eq_true rfl) dX1_feed_33 rfl (kS ?_) kN
    obtain ⟨rfl, rfl⟩ := ret_of e
    exact v_iret hc_X1_feed rfl dX1_feed_36 rfl rfl
  · refine k_S (pc' := 20) (n := 1) hc_X1_feed ho_X1_feed (w_X1_requireState D l hl s0 h e3) (wA_l q1935) q1936 q75 q1937 hy_292 ⟨Nat.le_of_ble_eq_true rfl, Nat.le_of_ble_eq_true rfl⟩ rfl rfl (Nat.le_of_ble_eq_true rfl) dX1_feed_17 rfl kM (kX ?_)
    exact v_outA (hp_X1_feed _) rfl rfl e
def f_X1_feed (x0 : Nat) (x1 : Int32) (h : AH) : Option ((Int32 ⊕ Nat) × AH) :=
  bd (gtR h 0 x0 2) fun v1 =>
  gd (isC h 18 v1) <|
  bd2 (f_J5_length v1 h) fun r3 h4 =>
  if (60 : Int32) ≤ r3 then (
    f_X1_feed_j17 x0 x1 (0 : Int32) h4
  ) else (
    f_X1_feed_j17 x0 x1 (1 : Int32) h4
  )
theorem v_X1_feed (D : va_G) (l : Launch) (hl : l.stackTraces = false) (as : List Value) (h0 : AH) {r : (Int32 ⊕ Nat)} {hF : AH} (x0 : Nat) (x1 : Int32) (h : AH) (e : f_X1_feed x0 x1 h = some (r, hF)) : V (G_X1_feed D l as h0 hF ((oX oI) r)) h 0 [(0, .ref x0), (1, .int x1)] [] := by
  unfold f_X1_feed at e
  refine v_aload_n (pc' := 1) hc_X1_feed dX1_feed_0 rfl rfl 0 rfl ?_
  refine v_gfR (pc' := 4) hc_X1_feed ho_X1_feed KX1 2 (Nat.le_of_ble_eq_true rfl) q238 (Or.inl rfl) dX1_feed_1 rfl e (fun v1 _ e => ?_)
  obtain ⟨c2, e⟩ := gd_of e
  obtain ⟨r3, h4, e5, e⟩ := bd2_of e
  refine k_V (pc' := 7) (ci := 18) (n := 0) hc_X1_feed ho_X1_feed rfl c2 (w_J5_length D l hl v1 h e5) (wA_l q533) q534 (wA_l q535) q82 q536 hy_273 ⟨Nat.le_of_ble_eq_true rfl, Nat.le_of_ble_eq_true rfl⟩ rfl rfl (Nat.le_of_ble_eq_true rfl) dX1_feed_4 rfl (kS ?_) kN
  refine v_bipush (pc' := 9) (v := 60) hc_X1_feed dX1_feed_7 rfl rfl ?_
  refine v_icmp_ge (pt := 16) (pf := 12) hc_X1_feed dX1_feed_9 rfl rfl e (fun _ e => ?_) (fun _ e => ?_)
  · refine v_iconst (pc' := 17) (v := 0) hc_X1_feed dX1_feed_16 rfl rfl ?_
    exact w_X1_feed_j17 D l hl as h0 x0 x1 (0 : Int32) h4 e
  · refine v_iconst (pc' := 13) (v := 1) hc_X1_feed dX1_feed_12 rfl rfl ?_
    refine v_goto (pt := 17) hc_X1_feed dX1_feed_13 rfl ?_
    exact w_X1_feed_j17 D l hl as h0 x0 x1 (1 : Int32) h4 e
theorem w_X1_feed (D : va_G) (l : Launch) (hl : l.stackTraces = false) (x0 : Nat) (x1 : Int32) (h : AH) {r : (Int32 ⊕ Nat)} {hF : AH} (e : f_X1_feed x0 x1 h = some (r, hF)) : MetV D l yX1_feed (Cond.code yX1_feed cX1_feed 2 (Option.some .int)) 7 181 [.ref x0, .int x1] h hF ((oX oI) r) :=
  met_ofF (by decide +kernel) hl (Nat.le_of_ble_eq_true rfl) rfl (v_X1_feed D l hl [.ref x0, .int x1] h x0 x1 h e)
/-! BlockPapers$Parser.<init>(LBlockPapers;)V  -/
abbrev G_X16_init (D : va_G) (l : Launch) (as : List Value) (h0 hF : AH) (o : Out) : CT := (D, l, (yX16_init.cls, yX16_init, cX16_init, 2, (Option.none : Option FieldType), 1, 48, []), as, h0, hF, o)
theorem hc_X16_init {D : va_G} {l : Launch} {as : List Value} {h0 hF : AH} {o : Out} : gC (G_X16_init D l as h0 hF o) = cX16_init := rfl
theorem ho_X16_init {D : va_G} {l : Launch} {as : List Value} {h0 hF : AH} {o : Out} : gO (G_X16_init D l as h0 hF o) = "BlockPapers$Parser" := rfl
theorem hp_X16_init {D : va_G} {l : Launch} {as : List Value} {h0 hF : AH} {o : Out} (pc : Nat) : ∀ z ∈ tableOf (gHd (G_X16_init D l as h0 hF o)), covers z pc = false := hpN
def f_X16_init (x0 : Nat) (x1 : Nat) (h : AH) : Option (Unit × AH) :=
  bd (stF h 14 x0 1 (.ref x1)) fun h1 =>
  some ((), h1)
theorem v_X16_init (D : va_G) (l : Launch) (hl : l.stackTraces = false) (as : List Value) (h0 : AH) {r : Unit} {hF : AH} (x0 : Nat) (x1 : Nat) (h : AH) (e : f_X16_init x0 x1 h = some (r, hF)) : V (G_X16_init D l as h0 hF (oV r)) h 0 [(0, .ref x0), (1, .ref x1)] [] := by
  unfold f_X16_init at e
  refine v_aload_n (pc' := 1) hc_X16_init dX16_init_0 rfl rfl 0 rfl ?_
  refine v_aload_n (pc' := 2) hc_X16_init dX16_init_1 rfl rfl 1 rfl ?_
  refine v_pfF (pc' := 5) hc_X16_init ho_X16_init rfl KX16 1 (Nat.le_of_ble_eq_true rfl) q1969 rfl rfl rfl dX16_init_2 rfl rfl rfl e (fun h1 _ e => ?_)
  refine v_aload_n (pc' := 6) hc_X16_init dX16_init_5 rfl rfl 0 rfl ?_
  refine v_oinit (pc' := 9) hc_X16_init ho_X16_init q1967 q127 q128 ⟨Nat.le_of_ble_eq_true rfl, Nat.le_of_ble_eq_true rfl⟩ dX16_init_6 rfl ?_
  obtain ⟨rfl, rfl⟩ := ret_of e
  exact v_ret hc_X16_init rfl dX16_init_9 rfl rfl
theorem w_X16_init (D : va_G) (l : Launch) (hl : l.stackTraces = false) (x0 : Nat) (x1 : Nat) (h : AH) {r : Unit} {hF : AH} (e : f_X16_init x0 x1 h = some (r, hF)) : MetV D l yX16_init (Cond.code yX16_init cX16_init 2 (Option.none : Option FieldType)) 1 48 [.ref x0, .ref x1] h hF (oV r) :=
  met_ofF (by decide +kernel) hl (Nat.le_of_ble_eq_true rfl) rfl (v_X16_init D l hl [.ref x0, .ref x1] h x0 x1 h e)
/-! BlockPapers$Parser.isAt(CC)Z  -/
abbrev G_X16_isAt (D : va_G) (l : Launch) (as : List Value) (h0 hF : AH) (o : Out) : CT := (D, l, (yX16_isAt.cls, yX16_isAt, cX16_isAt, 3, (Option.some .boolean), 5, 136, []), as, h0, hF, o)
theorem hc_X16_isAt {D : va_G} {l : Launch} {as : List Value} {h0 hF : AH} {o : Out} : gC (G_X16_isAt D l as h0 hF o) = cX16_isAt := rfl
theorem ho_X16_isAt {D : va_G} {l : Launch} {as : List Value} {h0 hF : AH} {o : Out} : gO (G_X16_isAt D l as h0 hF o) = "BlockPapers$Parser" := rfl
theorem hp_X16_isAt {D : va_G} {l : Launch} {as : List Value} {h0 hF : AH} {o : Out} (pc : Nat) : ∀ z ∈ tableOf (gHd (G_X16_isAt D l as h0 hF o)), covers z pc = false := hpN
def f_X16_isAt (x0 : Nat) (x1 : Int32) (x2 : Int32) (h : AH) : Option (Int32 × AH) :=
  bd (gtI h 14 x0 0) fun v1 =>
  bd (gtR h 14 x0 1) fun v2 =>
  bd (gtR h 0 v2 2) fun v3 =>
  gd (isC h 18 v3) <|
  bd2 (f_J5_length v3 h) fun r5 h6 =>
  if r5 ≤ v1 then (
    some ((0 : Int32), h6)
  ) else (
    bd (gtR h6 14 x0 1) fun v8 =>
    bd (gtR h6 0 v8 2) fun v9 =>
    bd (gtI h6 14 x0 0) fun v10 =>
    gd (isC h6 18 v9) <|
    bd2 (f_J5_charAt v9 v10 h6) fun r12 h13 =>
    bd2 (f_X1_inRange r12 x1 x2 h13) fun r15 h16 =>
    if r15 = 0 then (
      some ((0 : Int32), h16)
    ) else (
      some ((1 : Int32), h16)
    )
  )
theorem v_X16_isAt (D : va_G) (l : Launch) (hl : l.stackTraces = false) (as : List Value) (h0 : AH) {r : Int32} {hF : AH} (x0 : Nat) (x1 : Int32) (x2 : Int32) (h : AH) (e : f_X16_isAt x0 x1 x2 h = some (r, hF)) : V (G_X16_isAt D l as h0 hF (oI r)) h 0 [(0, .ref x0), (1, .int x1), (2, .int x2)] [] := by
  unfold f_X16_isAt at e
  refine v_aload_n (pc' := 1) hc_X16_isAt dX16_isAt_0 rfl rfl 0 rfl ?_
  refine v_gfI (pc' := 4) hc_X16_isAt ho_X16_isAt KX16 0 (Nat.le_of_ble_eq_true rfl) q1968 (Or.inl rfl) dX16_isAt_1 rfl e (fun v1 _ e => ?_)
  refine v_aload_n (pc' := 5) hc_X16_isAt dX16_isAt_4 rfl rfl 0 rfl ?_
  refine v_gfR (pc' := 8) hc_X16_isAt ho_X16_isAt KX16 1 (Nat.le_of_ble_eq_true rfl) q1969 (Or.inl rfl) dX16_isAt_5 rfl e (fun v2 _ e => ?_)
  refine v_gnR (pc' := 11) hc_X16_isAt ho_X16_isAt KX1 2 (Nat.le_of_ble_eq_true rfl) q237 rfl dX16_isAt_8 rfl e (fun v3 _ e => ?_)
  obtain ⟨c4, e⟩ := gd_of e
  obtain ⟨r5, h6, e7, e⟩ := bd2_of e
  refine k_V (pc' := 14) (ci := 18) (n := 0) hc_X16_isAt ho_X16_isAt rfl c4 (w_J5_length D l hl v3 h e7) (wA_l q2037) q534 (wA_l q535) q82 q536 hy_273 ⟨Nat.le_of_ble_eq_true rfl, Nat.le_of_ble_eq_true rfl⟩ rfl rfl (Nat.le_of_ble_eq_true rfl) dX16_isAt_11 rfl (kS ?_) kN
  refine v_icmp_ge (pt := 43) (pf := 17) hc_X16_isAt dX16_isAt_14 rfl rfl e (fun _ e => ?_) (fun _ e => ?_)
  · refine v_iconst (pc' := 44) (v := 0) hc_X16_isAt dX16_isAt_43 rfl rfl ?_
    obtain ⟨rfl, rfl⟩ := ret_of e
    exact v_zret hc_X16_isAt rfl (ft := .boolean) rfl dX16_isAt_44 rfl rfl
  · refine v_aload_n (pc' := 18) hc_X16_isAt dX16_isAt_17 rfl rfl 0 rfl ?_
    refine v_gfR (pc' := 21) hc_X16_isAt ho_X16_isAt KX16 1 (Nat.le_of_ble_eq_true rfl) q1969 (Or.inl rfl) dX16_isAt_18 rfl e (fun v8 _ e => ?_)
    refine v_gnR (pc' := 24) hc_X16_isAt ho_X16_isAt KX1 2 (Nat.le_of_ble_eq_true rfl) q237 rfl dX16_isAt_21 rfl e (fun v9 _ e => ?_)
    refine v_aload_n (pc' := 25) hc_X16_isAt dX16_isAt_24 rfl rfl 0 rfl ?_
    refine v_gfI (pc' := 28) hc_X16_isAt ho_X16_isAt KX16 0 (Nat.le_of_ble_eq_true rfl) q1968 (Or.inl rfl) dX16_isAt_25 rfl e (fun v10 _ e => ?_)
    obtain ⟨c11, e⟩ := gd_of e
    obtain ⟨r12, h13, e14, e⟩ := bd2_of e
    refine k_V (pc' := 31) (ci := 18) (n := 1) hc_X16_isAt ho_X16_isAt rfl c11 (w_J5_charAt D l hl v9 v10 h6 e14) (wA_l q2038) q1858 (wA_l q2695) q82 q1860 hy_309 ⟨Nat.le_of_ble_eq_true rfl, Nat.le_of_ble_eq_true rfl⟩ rfl rfl (Nat.le_of_ble_eq_true rfl) dX16_isAt_28 rfl (kS ?_) kN
    refine v_iload_n (pc' := 32) hc_X16_isAt dX16_isAt_31 rfl rfl 1 rfl ?_
    refine v_iload_n (pc' := 33) hc_X16_isAt dX16_isAt_32 rfl rfl 2 rfl ?_
    obtain ⟨r15, h16, e17, e⟩ := bd2_of e
    refine k_SN (pc' := 36) (x := ⟨"BlockPapers", "inRange", "(III)Z"⟩) (n := 3) hc_X16_isAt ho_X16_isAt (w_X1_inRange D l hl r12 x1 x2 h13 e17) q2039 q267 q75 q268 hy_39 ⟨Nat.le_of_ble_eq_true rfl, Nat.le_of_ble_eq_true rfl⟩ rfl rfl (Nat.le_of_ble_eq_true rfl) dX16_isAt_33 rfl (kS ?_) kN
    refine v_if_eq (pt := 43) (pf := 39) hc_X16_isAt dX16_isAt_36 rfl rfl e (fun _ e => ?_) (fun _ e => ?_)
    · refine v_iconst (pc' := 44) (v := 0) hc_X16_isAt dX16_isAt_43 rfl rfl ?_
      obtain ⟨rfl, rfl⟩ := ret_of e
      exact v_zret hc_X16_isAt rfl (ft := .boolean) rfl dX16_isAt_44 rfl rfl
    · refine v_iconst (pc' := 40) (v := 1) hc_X16_isAt dX16_isAt_39 rfl rfl ?_
      refine v_goto (pt := 44) hc_X16_isAt dX16_isAt_40 rfl ?_
      obtain ⟨rfl, rfl⟩ := ret_of e
      exact v_zret hc_X16_isAt rfl (ft := .boolean) rfl dX16_isAt_44 rfl rfl
theorem w_X16_isAt (D : va_G) (l : Launch) (hl : l.stackTraces = false) (x0 : Nat) (x1 : Int32) (x2 : Int32) (h : AH) {r : Int32} {hF : AH} (e : f_X16_isAt x0 x1 x2 h = some (r, hF)) : MetV D l yX16_isAt (Cond.code yX16_isAt cX16_isAt 3 (Option.some .boolean)) 5 136 [.ref x0, .int x1, .int x2] h hF (oI r) :=
  met_ofF (by decide +kernel) hl (Nat.le_of_ble_eq_true rfl) rfl (v_X16_isAt D l hl [.ref x0, .int x1, .int x2] h x0 x1 x2 h e)
/-! BlockPapers$FaultException.<init>(I)V  -/
abbrev G_X17_init (D : va_G) (l : Launch) (as : List Value) (h0 hF : AH) (o : Out) : CT := (D, l, (yX17_init.cls, yX17_init, cX17_init, 2, (Option.none : Option FieldType), 3, 96, []), as, h0, hF, o)
theorem hc_X17_init {D : va_G} {l : Launch} {as : List Value} {h0 hF : AH} {o : Out} : gC (G_X17_init D l as h0 hF o) = cX17_init := rfl
theorem ho_X17_init {D : va_G} {l : Launch} {as : List Value} {h0 hF : AH} {o : Out} : gO (G_X17_init D l as h0 hF o) = "BlockPapers$FaultException" := rfl
theorem hp_X17_init {D : va_G} {l : Launch} {as : List Value} {h0 hF : AH} {o : Out} (pc : Nat) : ∀ z ∈ tableOf (gHd (G_X17_init D l as h0 hF o)), covers z pc = false := hpN
def f_X17_init (x0 : Nat) (x1 : Int32) (h : AH) : Option (Unit × AH) :=
  bd2 (f_J10_init_3_15_n12 x0 (0 : Int32) (0 : Int32) h) fun r1 h2 =>
  bd (stF h2 15 x0 6 (.int x1)) fun h4 =>
  some ((), h4)
theorem v_X17_init (D : va_G) (l : Launch) (hl : l.stackTraces = false) (as : List Value) (h0 : AH) {r : Unit} {hF : AH} (x0 : Nat) (x1 : Int32) (h : AH) (e : f_X17_init x0 x1 h = some (r, hF)) : V (G_X17_init D l as h0 hF (oV r)) h 0 [(0, .ref x0), (1, .int x1)] [] := by
  unfold f_X17_init at e
  refine v_aload_n (pc' := 1) hc_X17_init dX17_init_0 rfl rfl 0 rfl ?_
  refine v_null (pc' := 2) hc_X17_init dX17_init_1 rfl ?_
  refine v_null (pc' := 3) hc_X17_init dX17_init_2 rfl ?_
  refine v_iconst (pc' := 4) (v := 0) hc_X17_init dX17_init_3 rfl rfl ?_
  refine v_iconst (pc' := 5) (v := 0) hc_X17_init dX17_init_4 rfl rfl ?_
  obtain ⟨r1, h2, e3, e⟩ := bd2_of e
  refine k_I (pc' := 8) (n := 4) hc_X17_init ho_X17_init (w_J10_init_3_15_n12 D l hl x0 (0 : Int32) (0 : Int32) h e3) (wA_l q2053) q1105 q89 q1106 rfl hy_42 ⟨Nat.le_of_ble_eq_true rfl, Nat.le_of_ble_eq_true rfl⟩ rfl rfl (Nat.le_of_ble_eq_true rfl) dX17_init_5 rfl (kU ?_) kN
  refine v_aload_n (pc' := 9) hc_X17_init dX17_init_8 rfl rfl 0 rfl ?_
  refine v_iload_n (pc' := 10) hc_X17_init dX17_init_9 rfl rfl 1 rfl ?_
  refine v_pfF (pc' := 13) hc_X17_init ho_X17_init rfl KX17 6 (Nat.le_of_ble_eq_true rfl) q2054 rfl rfl rfl dX17_init_10 rfl rfl rfl e (fun h4 _ e => ?_)
  obtain ⟨rfl, rfl⟩ := ret_of e
  exact v_ret hc_X17_init rfl dX17_init_13 rfl rfl
theorem w_X17_init (D : va_G) (l : Launch) (hl : l.stackTraces = false) (x0 : Nat) (x1 : Int32) (h : AH) {r : Unit} {hF : AH} (e : f_X17_init x0 x1 h = some (r, hF)) : MetV D l yX17_init (Cond.code yX17_init cX17_init 2 (Option.none : Option FieldType)) 3 96 [.ref x0, .int x1] h hF (oV r) :=
  met_ofF (by decide +kernel) hl (Nat.le_of_ble_eq_true rfl) rfl (v_X17_init D l hl [.ref x0, .int x1] h x0 x1 h e)
/-! BlockPapers$Parser.take(CC)C  -/
abbrev G_X16_take (D : va_G) (l : Launch) (as : List Value) (h0 hF : AH) (o : Out) : CT := (D, l, (yX16_take.cls, yX16_take, cX16_take, 3, (Option.some .char), 6, 158, []), as, h0, hF, o)
theorem hc_X16_take {D : va_G} {l : Launch} {as : List Value} {h0 hF : AH} {o : Out} : gC (G_X16_take D l as h0 hF o) = cX16_take := rfl
theorem ho_X16_take {D : va_G} {l : Launch} {as : List Value} {h0 hF : AH} {o : Out} : gO (G_X16_take D l as h0 hF o) = "BlockPapers$Parser" := rfl
theorem hp_X16_take {D : va_G} {l : Launch} {as : List Value} {h0 hF : AH} {o : Out} (pc : Nat) : ∀ z ∈ tableOf (gHd (G_X16_take D l as h0 hF o)), covers z pc = false := hpN
def f_X16_take (x0 : Nat) (x1 : Int32) (x2 : Int32) (h : AH) : Option ((Int32 ⊕ Nat) × AH) :=
  gd (isC h 14 x0) <|
  bd2 (f_X16_isAt x0 x1 x2 h) fun r2 h3 =>
  if r2 = 0 then (
    bd2 (nwX h3 15 7 fsX17) fun a6 h5 =>
    bd (gtI h5 14 x0 0) fun v7 =>
    bd2 (f_X17_init a6 v7 h5) fun r8 h9 =>
    outX h9 a6
  ) else (
    bd (gtI h3 14 x0 0) fun v11 =>
    bd (stF h3 14 x0 0 (.int (v11 + (1 : Int32)))) fun h12 =>
    bd (gtR h12 14 x0 1) fun v13 =>
    bd (gtR h12 0 v13 2) fun v14 =>
    bd (gtI h12 14 x0 0) fun v15 =>
    gd (isC h12 18 v14) <|
    bd2 (f_J5_charAt v14 (v15 - (1 : Int32)) h12) fun r17 h18 =>
    gd (nrw .char r17) <|
    some (.inl r17, h18)
  )
theorem v_X16_take (D : va_G) (l : Launch) (hl : l.stackTraces = false) (as : List Value) (h0 : AH) {r : (Int32 ⊕ Nat)} {hF : AH} (x0 : Nat) (x1 : Int32) (x2 : Int32) (h : AH) (e : f_X16_take x0 x1 x2 h = some (r, hF)) : V (G_X16_take D l as h0 hF ((oX oI) r)) h 0 [(0, .ref x0), (1, .int x1), (2, .int x2)] [] := by
  unfold f_X16_take at e
  refine v_aload_n (pc' := 1) hc_X16_take dX16_take_0 rfl rfl 0 rfl ?_
  refine v_iload_n (pc' := 2) hc_X16_take dX16_take_1 rfl rfl 1 rfl ?_
  refine v_iload_n (pc' := 3) hc_X16_take dX16_take_2 rfl rfl 2 rfl ?_
  obtain ⟨c1, e⟩ := gd_of e
  obtain ⟨r2, h3, e4, e⟩ := bd2_of e
  refine k_V (pc' := 6) (ci := 14) (n := 2) hc_X16_take ho_X16_take rfl c1 (w_X16_isAt D l hl x0 x1 x2 h e4) (wA_l q2033) q2035 (wA_l qs21) q118 q2036 hy_310 ⟨Nat.le_of_ble_eq_true rfl, Nat.le_of_ble_eq_true rfl⟩ rfl rfl (Nat.le_of_ble_eq_true rfl) dX16_take_3 rfl (kS ?_) kN
  refine v_if_ne (pt := 21) (pf := 9) hc_X16_take dX16_take_6 rfl rfl e (fun _ e => ?_) (fun _ e => ?_)
  · refine v_newX (pc' := 12) hc_X16_take ho_X16_take KX17 q2041 q2042 q119 rfl dfX17 dX16_take_9 rfl e (fun a6 h5 _ e => ?_)
    refine v_dup (pc' := 13) hc_X16_take dX16_take_12 rfl rfl ?_
    refine v_aload_n (pc' := 14) hc_X16_take dX16_take_13 rfl rfl 0 rfl ?_
    refine v_gfI (pc' := 17) hc_X16_take ho_X16_take KX16 0 (Nat.le_of_ble_eq_true rfl) q1968 (Or.inl rfl) dX16_take_14 rfl e (fun v7 _ e => ?_)
    obtain ⟨r8, h9, e10, e⟩ := bd2_of e
    refine k_I (pc' := 20) (n := 1) hc_X16_take ho_X16_take (w_X17_init D l hl a6 v7 h5 e10) (wA_l q2050) q2051 q119 q2052 rfl hy_311 ⟨Nat.le_of_ble_eq_true rfl, Nat.le_of_ble_eq_true rfl⟩ rfl rfl (Nat.le_of_ble_eq_true rfl) dX16_take_17 rfl (kU ?_) kN
    refine v_athrow hc_X16_take dX16_take_20 ?_
    exact v_outA (hp_X16_take _) rfl rfl e
  · refine v_aload_n (pc' := 22) hc_X16_take dX16_take_21 rfl rfl 0 rfl ?_
    refine v_dup (pc' := 23) hc_X16_take dX16_take_22 rfl rfl ?_
    refine v_gfI (pc' := 26) hc_X16_take ho_X16_take KX16 0 (Nat.le_of_ble_eq_true rfl) q1968 (Or.inl rfl) dX16_take_23 rfl e (fun v11 _ e => ?_)
    refine v_iconst (pc' := 27) (v := 1) hc_X16_take dX16_take_26 rfl rfl ?_
    refine v_iadd (pc' := 28) hc_X16_take dX16_take_27 rfl ?_
    refine v_pf (pc' := 31) hc_X16_take ho_X16_take KX16 0 (Nat.le_of_ble_eq_true rfl) q1968 (Or.inl rfl) rfl dX16_take_28 rfl rfl rfl e (fun h12 _ e => ?_)
    refine v_aload_n (pc' := 32) hc_X16_take dX16_take_31 rfl rfl 0 rfl ?_
    refine v_gfR (pc' := 35) hc_X16_take ho_X16_take KX16 1 (Nat.le_of_ble_eq_true rfl) q1969 (Or.inl rfl) dX16_take_32 rfl e (fun v13 _ e => ?_)
    refine v_gnR (pc' := 38) hc_X16_take ho_X16_take KX1 2 (Nat.le_of_ble_eq_true rfl) q237 rfl dX16_take_35 rfl e (fun v14 _ e => ?_)
    refine v_aload_n (pc' := 39) hc_X16_take dX16_take_38 rfl rfl 0 rfl ?_
    refine v_gfI (pc' := 42) hc_X16_take ho_X16_take KX16 0 (Nat.le_of_ble_eq_true rfl) q1968 (Or.inl rfl) dX16_take_39 rfl e (fun v15 _ e => ?_)
    refine v_iconst (pc' := 43) (v := 1) hc_X16_take dX16_take_42 rfl rfl ?_
    refine v_isub (pc' := 44) hc_X16_take dX16_take_43 rfl ?_
    obtain ⟨c16, e⟩ := gd_of e
    obtain ⟨r17, h18, e19, e⟩ := bd2_of e
    refine k_V (pc' := 47) (ci := 18) (n := 1) hc_X16_take ho_X16_take rfl c16 (w_J5_charAt D l hl v14 (v15 - (1 : Int32)) h12 e19) (wA_l q2038) q1858 (wA_l q2695) q82 q1860 hy_309 ⟨Nat.le_of_ble_eq_true rfl, Nat.le_of_ble_eq_true rfl⟩ rfl rfl (Nat.le_of_ble_eq_true rfl) dX16_take_44 rfl (kS ?_) kN
    obtain ⟨c20, e⟩ := gd_of e
    obtain ⟨rfl, rfl⟩ := ret_of e
    exact v_zret hc_X16_take rfl (nrw_of c20) dX16_take_47 rfl rfl
theorem w_X16_take (D : va_G) (l : Launch) (hl : l.stackTraces = false) (x0 : Nat) (x1 : Int32) (x2 : Int32) (h : AH) {r : (Int32 ⊕ Nat)} {hF : AH} (e : f_X16_take x0 x1 x2 h = some (r, hF)) : MetV D l yX16_take (Cond.code yX16_take cX16_take 3 (Option.some .char)) 6 158 [.ref x0, .int x1, .int x2] h hF ((oX oI) r) :=
  met_ofF (by decide +kernel) hl (Nat.le_of_ble_eq_true rfl) rfl (v_X16_take D l hl [.ref x0, .int x1, .int x2] h x0 x1 x2 h e)
/-! BlockPapers$Parser.word()Ljava/lang/String;  -/
abbrev G_X16_word (D : va_G) (l : Launch) (as : List Value) (h0 hF : AH) (o : Out) : CT := (D, l, (yX16_word.cls, yX16_word, cX16_word, 4, (Option.some (.object "java/lang/String")), 7, 182, []), as, h0, hF, o)
theorem hc_X16_word {D : va_G} {l : Launch} {as : List Value} {h0 hF : AH} {o : Out} : gC (G_X16_word D l as h0 hF o) = cX16_word := rfl
theorem ho_X16_word {D : va_G} {l : Launch} {as : List Value} {h0 hF : AH} {o : Out} : gO (G_X16_word D l as h0 hF o) = "BlockPapers$Parser" := rfl
theorem hp_X16_word {D : va_G} {l : Launch} {as : List Value} {h0 hF : AH} {o : Out} (pc : Nat) : ∀ z ∈ tableOf (gHd (G_X16_word D l as h0 hF o)), covers z pc = false := hpN
def f_X16_word_j86 (rec6 : Nat → Nat → Nat → AH → Option ((Nat ⊕ Nat) × AH)) (x0 : Nat) (x1 : Nat) (x2 : Nat) (s0 : Int32) (h : AH) : Option ((Nat ⊕ Nat) × AH) :=
  if s0 = 0 then (
    bd2 (nwX h 15 7 fsX17) fun a2 h1 =>
    bd (gtI h1 14 x0 0) fun v3 =>
    bd2 (f_X17_init a2 v3 h1) fun r4 h5 =>
    outX h5 a2
  ) else (
    bd2 (nwX h 18 4 fsJ5) fun a8 h7 =>
    bd2 (f_J5_init a8 h7) fun r9 h10 =>
    gd (isC h10 18 a8) <|
    bd2 (f_J5_append_2 a8 x2 h10) fun r13 h14 =>
    gd (isC h14 14 x0) <|
    bdX (f_X16_take x0 (97 : Int32) (122 : Int32) h14) (fun zq28 h18 =>
      outX h18 zq28
    ) fun r17 h18 =>
    gd (isC h18 18 r13) <|
    bd2 (f_J5_append_7 r13 r17 h18) fun r21 h22 =>
    gd (isC h22 18 r21) <|
    bd2 (f_J5_toString r21 h22) fun r25 h26 =>
    rec6 x0 x1 r25 h26
  )
theorem w_X16_word_j86 (D : va_G) (l : Launch) (hl : l.stackTraces = false) (as : List Value) (h0 : AH) {r : (Nat ⊕ Nat)} {hF : AH} (rec6 : Nat → Nat → Nat → AH → Option ((Nat ⊕ Nat) × AH)) (R6 : ∀ x0 x1 x2 k, rec6 x0 x1 x2 k = some (r, hF) → V (G_X16_word D l as h0 hF ((oX oR) r)) k 6 [(0, .ref x0), (1, .ref x1), (2, .ref x2)] []) (x0 : Nat) (x1 : Nat) (x2 : Nat) (s0 : Int32) (h : AH) (e : f_X16_word_j86 rec6 x0 x1 x2 s0 h = some (r, hF)) : V (G_X16_word D l as h0 hF ((oX oR) r)) h 86 [(0, .ref x0), (1, .ref x1), (2, .ref x2)] [.int s0] := by
  unfold f_X16_word_j86 at e
  refine v_istore_n (pc' := 87) (lv' := [(3, .int s0), (0, .ref x0), (1, .ref x1), (2, .ref x2)]) hc_X16_word dX16_word_86 rfl rfl (Nat.le_of_ble_eq_true rfl) rfl ?_
  refine v_iload_n (pc' := 88) hc_X16_word dX16_word_87 rfl rfl 0 rfl ?_
  refine v_if_ne (pt := 103) (pf := 91) hc_X16_word dX16_word_88 rfl rfl e (fun _ e => ?_) (fun _ e => ?_)
  · refine v_newX (pc' := 94) hc_X16_word ho_X16_word KX17 q2041 q2042 q119 rfl dfX17 dX16_word_91 rfl e (fun a2 h1 _ e => ?_)
    refine v_dup (pc' := 95) hc_X16_word dX16_word_94 rfl rfl ?_
    refine v_aload_n (pc' := 96) hc_X16_word dX16_word_95 rfl rfl 1 rfl ?_
    refine v_gfI (pc' := 99) hc_X16_word ho_X16_word KX16 0 (Nat.le_of_ble_eq_true rfl) q1968 (Or.inl rfl) dX16_word_96 rfl e (fun v3 _ e => ?_)
    obtain ⟨r4, h5, e6, e⟩ := bd2_of e
    refine k_I (pc' := 102) (n := 1) hc_X16_word ho_X16_word (w_X17_init D l hl a2 v3 h1 e6) (wA_l q2050) q2051 q119 q2052 rfl hy_311 ⟨Nat.le_of_ble_eq_true rfl, Nat.le_of_ble_eq_true rfl⟩ rfl rfl (Nat.le_of_ble_eq_true rfl) dX16_word_99 rfl (kU ?_) kN
    refine v_athrow hc_X16_word dX16_word_102 ?_
    exact v_outA (hp_X16_word _) rfl rfl e
  · refine v_newX (pc' := 106) hc_X16_word ho_X16_word KJ5 q1991 q202 q82 rfl dfJ5 dX16_word_103 rfl e (fun a8 h7 _ e => ?_)
    refine v_dup (pc' := 107) hc_X16_word dX16_word_106 rfl rfl ?_
    obtain ⟨r9, h10, e11, e⟩ := bd2_of e
    refine k_I (pc' := 110) (n := 0) hc_X16_word ho_X16_word (w_J5_init D l hl a8 h7 e11) (wA_l q1992) q204 q82 q205 rfl hy_6 ⟨Nat.le_of_ble_eq_true rfl, Nat.le_of_ble_eq_true rfl⟩ rfl rfl (Nat.le_of_ble_eq_true rfl) dX16_word_107 rfl (kU ?_) kN
    refine v_aload_n (pc' := 111) hc_X16_word dX16_word_110 rfl rfl 3 rfl ?_
    obtain ⟨c12, e⟩ := gd_of e
    obtain ⟨r13, h14, e15, e⟩ := bd2_of e
    refine k_V (pc' := 114) (ci := 18) (n := 1) hc_X16_word ho_X16_word rfl c12 (w_J5_append_2 D l hl a8 x2 h10 e15) (wA_l q1993) q683 (wA_l q684) q82 q685 hy_235 ⟨Nat.le_of_ble_eq_true rfl, Nat.le_of_ble_eq_true rfl⟩ rfl rfl (Nat.le_of_ble_eq_true rfl) dX16_word_111 rfl (kS ?_) kN
    refine v_aload_n (pc' := 115) hc_X16_word dX16_word_114 rfl rfl 1 rfl ?_
    refine v_bipush (pc' := 117) (v := 97) hc_X16_word dX16_word_115 rfl rfl ?_
    refine v_bipush (pc' := 119) (v := 122) hc_X16_word dX16_word_117 rfl rfl ?_
    obtain ⟨c16, e⟩ := gd_of e
    rcases bdX_of e with ⟨r17, h18, e19, e⟩ | ⟨zq28, h18, e19, e⟩
    · refine k_V (pc' := 122) (ci := 14) (n := 2) hc_X16_word ho_X16_word rfl c16 (w_X16_take D l hl x0 (97 : Int32) (122 : Int32) h14 e19) (wA_l q2060) q2062 (wA_l qs22) q118 q2063 hy_312 ⟨Nat.le_of_ble_eq_true rfl, Nat.le_of_ble_eq_true rfl⟩ rfl rfl (Nat.le_of_ble_eq_true rfl) dX16_word_119 rfl (kS ?_) kN
      obtain ⟨c20, e⟩ := gd_of e
      obtain ⟨r21, h22, e23, e⟩ := bd2_of e
      refine k_V (pc' := 125) (ci := 18) (n := 1) hc_X16_word ho_X16_word rfl c20 (w_J5_append_7 D l hl r13 r17 h18 e23) (wA_l q2040) q1944 (wA_l q1945) q82 q1946 hy_299 ⟨Nat.le_of_ble_eq_true rfl, Nat.le_of_ble_eq_true rfl⟩ rfl rfl (Nat.le_of_ble_eq_true rfl) dX16_word_122 rfl (kS ?_) kN
      obtain ⟨c24, e⟩ := gd_of e
      obtain ⟨r25, h26, e27, e⟩ := bd2_of e
      refine k_V (pc' := 128) (ci := 18) (n := 0) hc_X16_word ho_X16_word rfl c24 (w_J5_toString D l hl r21 h22 e27) (wA_l q1994) q740 (wA_l q741) q82 q742 hy_243 ⟨Nat.le_of_ble_eq_true rfl, Nat.le_of_ble_eq_true rfl⟩ rfl rfl (Nat.le_of_ble_eq_true rfl) dX16_word_125 rfl (kS ?_) kN
      refine v_astore_n (pc' := 129) (lv' := [(2, .ref r25), (3, .int s0), (0, .ref x0), (1, .ref x1)]) hc_X16_word dX16_word_128 rfl rfl (Nat.le_of_ble_eq_true rfl) rfl ?_
      refine v_goto (pt := 6) hc_X16_word dX16_word_129 rfl ?_
      refine v_pick [2, 3, 0] rfl ?_
      exact R6 x0 x1 r25 h26 e
    · refine k_V (pc' := 122) (ci := 14) (n := 2) hc_X16_word ho_X16_word rfl c16 (w_X16_take D l hl x0 (97 : Int32) (122 : Int32) h14 e19) (wA_l q2060) q2062 (wA_l qs22) q118 q2063 hy_312 ⟨Nat.le_of_ble_eq_true rfl, Nat.le_of_ble_eq_true rfl⟩ rfl rfl (Nat.le_of_ble_eq_true rfl) dX16_word_119 rfl kM (kX ?_)
      exact v_outA (hp_X16_word _) rfl rfl e
def fb_X16_word_l6 (rec : Nat → Nat → Nat → AH → Option ((Nat ⊕ Nat) × AH)) (x0 : Nat) (x1 : Nat) (x2 : Nat) (h : AH) : Option ((Nat ⊕ Nat) × AH) :=
  bd2 (nwX h 18 4 fsJ5) fun a2 h1 =>
  bd2 (f_J5_init a2 h1) fun r3 h4 =>
  gd (isC h4 18 a2) <|
  bd2 (f_J5_append_2 a2 x2 h4) fun r7 h8 =>
  bd (aE h8 117) fun v10 =>
  gd (isC h8 18 r7) <|
  bd2 (f_J5_append_2 r7 v10 h8) fun r12 h13 =>
  gd (isC h13 18 r12) <|
  bd2 (f_J5_toString r12 h13) fun r16 h17 =>
  gd (isC h17 19 x1) <|
  bd2 (f_J6_contains x1 r16 h17) fun r20 h21 =>
  if r20 = 0 then (
    gd (isC h21 14 x0) <|
    bd2 (f_X16_isAt x0 (97 : Int32) (122 : Int32) h21) fun r24 h25 =>
    if r24 = 0 then (
      f_X16_word_j86 rec x0 x1 x2 (0 : Int32) h25
    ) else (
      bd2 (nwX h25 18 4 fsJ5) fun a28 h27 =>
      bd2 (f_J5_init a28 h27) fun r29 h30 =>
      gd (isC h30 18 a28) <|
      bd2 (f_J5_append_2 a28 x2 h30) fun r33 h34 =>
      bd (gtR h34 14 x0 1) fun v36 =>
      bd (gtR h34 0 v36 2) fun v37 =>
      bd (gtI h34 14 x0 0) fun v38 =>
      gd (isC h34 18 v37) <|
      bd2 (f_J5_charAt v37 v38 h34) fun r40 h41 =>
      gd (isC h41 18 r33) <|
      bd2 (f_J5_append_7 r33 r40 h41) fun r44 h45 =>
      gd (isC h45 18 r44) <|
      bd2 (f_J5_toString r44 h45) fun r48 h49 =>
      gd (isC h49 19 x1) <|
      bd2 (f_J6_contains x1 r48 h49) fun r52 h53 =>
      if r52 = 0 then (
        f_X16_word_j86 rec x0 x1 x2 (0 : Int32) h53
      ) else (
        f_X16_word_j86 rec x0 x1 x2 (1 : Int32) h53
      )
    )
  ) else (
    gd (isC h21 19 x2) <|
    bd2 (f_J6_substring x2 (1 : Int32) h21) fun r56 h57 =>
    some (.inl r56, h57)
  )
def f_X16_word_l6 : Nat → Nat → Nat → Nat → AH → Option ((Nat ⊕ Nat) × AH)
  | 0 => fun _ _ _ _ => none
  | n + 1 => fb_X16_word_l6 (f_X16_word_l6 n) 
theorem w_X16_word_l6 (D : va_G) (l : Launch) (hl : l.stackTraces = false) (as : List Value) (h0 : AH) {r : (Nat ⊕ Nat)} {hF : AH} : ∀ (n : Nat) (x0 : Nat) (x1 : Nat) (x2 : Nat) (h : AH), f_X16_word_l6 n x0 x1 x2 h = some (r, hF) → V (G_X16_word D l as h0 hF ((oX oR) r)) h 6 [(0, .ref x0), (1, .ref x1), (2, .ref x2)] [] := by
  intro n; induction n with
  | zero => intro x0 x1 x2 h e; exact absurd (show (none : Option ((Nat ⊕ Nat) × AH)) = some _ from e) (fun z => nomatch z)
  | succ n IH =>
    intro x0 x1 x2 h e
    have e : fb_X16_word_l6 (f_X16_word_l6 n) x0 x1 x2 h = some (r, hF) := e
    unfold fb_X16_word_l6 at e
    refine v_aload_n (pc' := 7) hc_X16_word dX16_word_6 rfl rfl 1 rfl ?_
    refine v_newX (pc' := 10) hc_X16_word ho_X16_word KJ5 q1991 q202 q82 rfl dfJ5 dX16_word_7 rfl e (fun a2 h1 _ e => ?_)
    refine v_dup (pc' := 11) hc_X16_word dX16_word_10 rfl rfl ?_
    obtain ⟨r3, h4, e5, e⟩ := bd2_of e
    refine k_I (pc' := 14) (n := 0) hc_X16_word ho_X16_word (w_J5_init D l hl a2 h1 e5) (wA_l q1992) q204 q82 q205 rfl hy_6 ⟨Nat.le_of_ble_eq_true rfl, Nat.le_of_ble_eq_true rfl⟩ rfl rfl (Nat.le_of_ble_eq_true rfl) dX16_word_11 rfl (kU ?_) kN
    refine v_aload_n (pc' := 15) hc_X16_word dX16_word_14 rfl rfl 2 rfl ?_
    obtain ⟨c6, e⟩ := gd_of e
    obtain ⟨r7, h8, e9, e⟩ := bd2_of e
    refine k_V (pc' := 18) (ci := 18) (n := 1) hc_X16_word ho_X16_word rfl c6 (w_J5_append_2 D l hl a2 x2 h4 e9) (wA_l q1993) q683 (wA_l q684) q82 q685 hy_235 ⟨Nat.le_of_ble_eq_true rfl, Nat.le_of_ble_eq_true rfl⟩ rfl rfl (Nat.le_of_ble_eq_true rfl) dX16_word_15 rfl (kS ?_) kN
    refine v_ldcS (pc' := 20) (tx := " ") (j := 117) hc_X16_word ho_X16_word (by decide +kernel) dX16_word_18 rfl e (fun v10 _ e => ?_)
    obtain ⟨c11, e⟩ := gd_of e
    obtain ⟨r12, h13, e14, e⟩ := bd2_of e
    refine k_V (pc' := 23) (ci := 18) (n := 1) hc_X16_word ho_X16_word rfl c11 (w_J5_append_2 D l hl r7 v10 h8 e14) (wA_l q1993) q683 (wA_l q684) q82 q685 hy_235 ⟨Nat.le_of_ble_eq_true rfl, Nat.le_of_ble_eq_true rfl⟩ rfl rfl (Nat.le_of_ble_eq_true rfl) dX16_word_20 rfl (kS ?_) kN
    obtain ⟨c15, e⟩ := gd_of e
    obtain ⟨r16, h17, e18, e⟩ := bd2_of e
    refine k_V (pc' := 26) (ci := 18) (n := 0) hc_X16_word ho_X16_word rfl c15 (w_J5_toString D l hl r12 h13 e18) (wA_l q1994) q740 (wA_l q741) q82 q742 hy_243 ⟨Nat.le_of_ble_eq_true rfl, Nat.le_of_ble_eq_true rfl⟩ rfl rfl (Nat.le_of_ble_eq_true rfl) dX16_word_23 rfl (kS ?_) kN
    obtain ⟨c19, e⟩ := gd_of e
    obtain ⟨r20, h21, e22, e⟩ := bd2_of e
    refine k_V (pc' := 29) (ci := 19) (n := 1) hc_X16_word ho_X16_word rfl c19 (w_J6_contains D l hl x1 r16 h17 e22) (wA_l q1995) q1996 (wA_l q1997) q83 q1998 hy_308 ⟨Nat.le_of_ble_eq_true rfl, Nat.le_of_ble_eq_true rfl⟩ rfl rfl (Nat.le_of_ble_eq_true rfl) dX16_word_26 rfl (kS ?_) kN
    refine v_if_ne (pt := 132) (pf := 32) hc_X16_word dX16_word_29 rfl rfl e (fun _ e => ?_) (fun _ e => ?_)
    · refine v_aload_n (pc' := 33) hc_X16_word dX16_word_32 rfl rfl 0 rfl ?_
      refine v_bipush (pc' := 35) (v := 97) hc_X16_word dX16_word_33 rfl rfl ?_
      refine v_bipush (pc' := 37) (v := 122) hc_X16_word dX16_word_35 rfl rfl ?_
      obtain ⟨c23, e⟩ := gd_of e
      obtain ⟨r24, h25, e26, e⟩ := bd2_of e
      refine k_V (pc' := 40) (ci := 14) (n := 2) hc_X16_word ho_X16_word rfl c23 (w_X16_isAt D l hl x0 (97 : Int32) (122 : Int32) h21 e26) (wA_l q2033) q2035 (wA_l qs21) q118 q2036 hy_310 ⟨Nat.le_of_ble_eq_true rfl, Nat.le_of_ble_eq_true rfl⟩ rfl rfl (Nat.le_of_ble_eq_true rfl) dX16_word_37 rfl (kS ?_) kN
      refine v_if_eq (pt := 85) (pf := 43) hc_X16_word dX16_word_40 rfl rfl e (fun _ e => ?_) (fun _ e => ?_)
      · refine v_iconst (pc' := 86) (v := 0) hc_X16_word dX16_word_85 rfl rfl ?_
        exact w_X16_word_j86 D l hl as h0 (f_X16_word_l6 n) IH x0 x1 x2 (0 : Int32) h25 e
      · refine v_aload_n (pc' := 44) hc_X16_word dX16_word_43 rfl rfl 1 rfl ?_
        refine v_newX (pc' := 47) hc_X16_word ho_X16_word KJ5 q1991 q202 q82 rfl dfJ5 dX16_word_44 rfl e (fun a28 h27 _ e => ?_)
        refine v_dup (pc' := 48) hc_X16_word dX16_word_47 rfl rfl ?_
        obtain ⟨r29, h30, e31, e⟩ := bd2_of e
        refine k_I (pc' := 51) (n := 0) hc_X16_word ho_X16_word (w_J5_init D l hl a28 h27 e31) (wA_l q1992) q204 q82 q205 rfl hy_6 ⟨Nat.le_of_ble_eq_true rfl, Nat.le_of_ble_eq_true rfl⟩ rfl rfl (Nat.le_of_ble_eq_true rfl) dX16_word_48 rfl (kU ?_) kN
        refine v_aload_n (pc' := 52) hc_X16_word dX16_word_51 rfl rfl 2 rfl ?_
        obtain ⟨c32, e⟩ := gd_of e
        obtain ⟨r33, h34, e35, e⟩ := bd2_of e
        refine k_V (pc' := 55) (ci := 18) (n := 1) hc_X16_word ho_X16_word rfl c32 (w_J5_append_2 D l hl a28 x2 h30 e35) (wA_l q1993) q683 (wA_l q684) q82 q685 hy_235 ⟨Nat.le_of_ble_eq_true rfl, Nat.le_of_ble_eq_true rfl⟩ rfl rfl (Nat.le_of_ble_eq_true rfl) dX16_word_52 rfl (kS ?_) kN
        refine v_aload_n (pc' := 56) hc_X16_word dX16_word_55 rfl rfl 0 rfl ?_
        refine v_gfR (pc' := 59) hc_X16_word ho_X16_word KX16 1 (Nat.le_of_ble_eq_true rfl) q1969 (Or.inl rfl) dX16_word_56 rfl e (fun v36 _ e => ?_)
        refine v_gnR (pc' := 62) hc_X16_word ho_X16_word KX1 2 (Nat.le_of_ble_eq_true rfl) q237 rfl dX16_word_59 rfl e (fun v37 _ e => ?_)
        refine v_aload_n (pc' := 63) hc_X16_word dX16_word_62 rfl rfl 0 rfl ?_
        refine v_gfI (pc' := 66) hc_X16_word ho_X16_word KX16 0 (Nat.le_of_ble_eq_true rfl) q1968 (Or.inl rfl) dX16_word_63 rfl e (fun v38 _ e => ?_)
        obtain ⟨c39, e⟩ := gd_of e
        obtain ⟨r40, h41, e42, e⟩ := bd2_of e
        refine k_V (pc' := 69) (ci := 18) (n := 1) hc_X16_word ho_X16_word rfl c39 (w_J5_charAt D l hl v37 v38 h34 e42) (wA_l q2038) q1858 (wA_l q2695) q82 q1860 hy_309 ⟨Nat.le_of_ble_eq_true rfl, Nat.le_of_ble_eq_true rfl⟩ rfl rfl (Nat.le_of_ble_eq_true rfl) dX16_word_66 rfl (kS ?_) kN
        obtain ⟨c43, e⟩ := gd_of e
        obtain ⟨r44, h45, e46, e⟩ := bd2_of e
        refine k_V (pc' := 72) (ci := 18) (n := 1) hc_X16_word ho_X16_word rfl c43 (w_J5_append_7 D l hl r33 r40 h41 e46) (wA_l q2040) q1944 (wA_l q1945) q82 q1946 hy_299 ⟨Nat.le_of_ble_eq_true rfl, Nat.le_of_ble_eq_true rfl⟩ rfl rfl (Nat.le_of_ble_eq_true rfl) dX16_word_69 rfl (kS ?_) kN
        obtain ⟨c47, e⟩ := gd_of e
        obtain ⟨r48, h49, e50, e⟩ := bd2_of e
        refine k_V (pc' := 75) (ci := 18) (n := 0) hc_X16_word ho_X16_word rfl c47 (w_J5_toString D l hl r44 h45 e50) (wA_l q1994) q740 (wA_l q741) q82 q742 hy_243 ⟨Nat.le_of_ble_eq_true rfl, Nat.le_of_ble_eq_true rfl⟩ rfl rfl (Nat.le_of_ble_eq_true rfl) dX16_word_72 rfl (kS ?_) kN
        obtain ⟨c51, e⟩ := gd_of e
        obtain ⟨r52, h53, e54, e⟩ := bd2_of e
        refine k_V (pc' := 78) (ci := 19) (n := 1) hc_X16_word ho_X16_word rfl c51 (w_J6_contains D l hl x1 r48 h49 e54) (wA_l q1995) q1996 (wA_l q1997) q83 q1998 hy_308 ⟨Nat.le_of_ble_eq_true rfl, Nat.le_of_ble_eq_true rfl⟩ rfl rfl (Nat.le_of_ble_eq_true rfl) dX16_word_75 rfl (kS ?_) kN
        refine v_if_eq (pt := 85) (pf := 81) hc_X16_word dX16_word_78 rfl rfl e (fun _ e => ?_) (fun _ e => ?_)
        · refine v_iconst (pc' := 86) (v := 0) hc_X16_word dX16_word_85 rfl rfl ?_
          exact w_X16_word_j86 D l hl as h0 (f_X16_word_l6 n) IH x0 x1 x2 (0 : Int32) h53 e
        · refine v_iconst (pc' := 82) (v := 1) hc_X16_word dX16_word_81 rfl rfl ?_
          refine v_goto (pt := 86) hc_X16_word dX16_word_82 rfl ?_
          exact w_X16_word_j86 D l hl as h0 (f_X16_word_l6 n) IH x0 x1 x2 (1 : Int32) h53 e
    · refine v_aload_n (pc' := 133) hc_X16_word dX16_word_132 rfl rfl 2 rfl ?_
      refine v_iconst (pc' := 134) (v := 1) hc_X16_word dX16_word_133 rfl rfl ?_
      obtain ⟨c55, e⟩ := gd_of e
      obtain ⟨r56, h57, e58, e⟩ := bd2_of e
      refine k_V (pc' := 137) (ci := 19) (n := 1) hc_X16_word ho_X16_word rfl c55 (w_J6_substring D l hl x2 (1 : Int32) h21 e58) (wA_l q2064) q2065 (wA_l q2066) q83 q2067 hy_318 ⟨Nat.le_of_ble_eq_true rfl, Nat.le_of_ble_eq_true rfl⟩ rfl rfl (Nat.le_of_ble_eq_true rfl) dX16_word_134 rfl (kS ?_) kN
      obtain ⟨rfl, rfl⟩ := ret_of e
      exact v_aret hc_X16_word rfl (Or.inl ⟨_, rfl⟩) (Or.inr ⟨_, rfl⟩) dX16_word_137 rfl rfl
def f_X16_word (x0 : Nat) (h : AH) : Option ((Nat ⊕ Nat) × AH) :=
  bd (aE h 116) fun v1 =>
  bd (aE h 117) fun v2 =>
  f_X16_word_l6 NN x0 v1 v2 h
theorem v_X16_word (D : va_G) (l : Launch) (hl : l.stackTraces = false) (as : List Value) (h0 : AH) {r : (Nat ⊕ Nat)} {hF : AH} (x0 : Nat) (h : AH) (e : f_X16_word x0 h = some (r, hF)) : V (G_X16_word D l as h0 hF ((oX oR) r)) h 0 [(0, .ref x0)] [] := by
  unfold f_X16_word at e
  refine v_ldcS (pc' := 2) (tx := " print hang strip back finish carve mix ") (j := 116) hc_X16_word ho_X16_word (by decide +kernel) dX16_word_0 rfl e (fun v1 _ e => ?_)
  refine v_astore_n (pc' := 3) (lv' := [(1, .ref v1), (0, .ref x0)]) hc_X16_word dX16_word_2 rfl rfl (Nat.le_of_ble_eq_true rfl) rfl ?_
  refine v_ldcS (pc' := 5) (tx := " ") (j := 117) hc_X16_word ho_X16_word (by decide +kernel) dX16_word_3 rfl e (fun v2 _ e => ?_)
  refine v_astore_n (pc' := 6) (lv' := [(2, .ref v2), (1, .ref v1), (0, .ref x0)]) hc_X16_word dX16_word_5 rfl rfl (Nat.le_of_ble_eq_true rfl) rfl ?_
  refine v_pick [2, 1, 0] rfl ?_
  exact w_X16_word_l6 D l hl as h0 NN x0 v1 v2 h e
theorem w_X16_word (D : va_G) (l : Launch) (hl : l.stackTraces = false) (x0 : Nat) (h : AH) {r : (Nat ⊕ Nat)} {hF : AH} (e : f_X16_word x0 h = some (r, hF)) : MetV D l yX16_word (Cond.code yX16_word cX16_word 4 (Option.some (.object "java/lang/String"))) 7 182 [.ref x0] h hF ((oX oR) r) :=
  met_ofF (by decide +kernel) hl (Nat.le_of_ble_eq_true rfl) rfl (v_X16_word D l hl [.ref x0] h x0 h e)
/-! BlockPapers$Parser.number(I)I  -/
abbrev G_X16_number (D : va_G) (l : Launch) (as : List Value) (h0 hF : AH) (o : Out) : CT := (D, l, (yX16_number.cls, yX16_number, cX16_number, 5, (Option.some .int), 7, 180, []), as, h0, hF, o)
theorem hc_X16_number {D : va_G} {l : Launch} {as : List Value} {h0 hF : AH} {o : Out} : gC (G_X16_number D l as h0 hF o) = cX16_number := rfl
theorem ho_X16_number {D : va_G} {l : Launch} {as : List Value} {h0 hF : AH} {o : Out} : gO (G_X16_number D l as h0 hF o) = "BlockPapers$Parser" := rfl
theorem hp_X16_number {D : va_G} {l : Launch} {as : List Value} {h0 hF : AH} {o : Out} (pc : Nat) : ∀ z ∈ tableOf (gHd (G_X16_number D l as h0 hF o)), covers z pc = false := hpN
def fb_X16_number_l24 (rec : Nat → Int32 → Int32 → Int32 → AH → Option ((Int32 ⊕ Nat) × AH)) (x0 : Nat) (x1 : Int32) (x3 : Int32) (x4 : Int32) (h : AH) : Option ((Int32 ⊕ Nat) × AH) :=
  if x1 ≤ x4 then (
    some (.inl x3, h)
  ) else (
    gd (isC h 14 x0) <|
    bd2 (f_X16_isAt x0 (48 : Int32) (57 : Int32) h) fun r2 h3 =>
    if r2 = 0 then (
      some (.inl x3, h3)
    ) else (
      gd (isC h3 14 x0) <|
      bdX (f_X16_take x0 (48 : Int32) (57 : Int32) h3) (fun zq9 h7 =>
        outX h7 zq9
      ) fun r6 h7 =>
      rec x0 x1 ((((10 : Int32) * x3) + r6) - (48 : Int32)) (x4 + 1) h7
    )
  )
def f_X16_number_l24 : Nat → Nat → Int32 → Int32 → Int32 → AH → Option ((Int32 ⊕ Nat) × AH)
  | 0 => fun _ _ _ _ _ => none
  | n + 1 => fb_X16_number_l24 (f_X16_number_l24 n) 
theorem w_X16_number_l24 (D : va_G) (l : Launch) (hl : l.stackTraces = false) (as : List Value) (h0 : AH) {r : (Int32 ⊕ Nat)} {hF : AH} : ∀ (n : Nat) (x0 : Nat) (x1 : Int32) (x3 : Int32) (x4 : Int32) (h : AH), f_X16_number_l24 n x0 x1 x3 x4 h = some (r, hF) → V (G_X16_number D l as h0 hF ((oX oI) r)) h 24 [(0, .ref x0), (1, .int x1), (3, .int x3), (4, .int x4)] [] := by
  intro n; induction n with
  | zero => intro x0 x1 x3 x4 h e; exact absurd (show (none : Option ((Int32 ⊕ Nat) × AH)) = some _ from e) (fun z => nomatch z)
  | succ n IH =>
    intro x0 x1 x3 x4 h e
    have e : fb_X16_number_l24 (f_X16_number_l24 n) x0 x1 x3 x4 h = some (r, hF) := e
    unfold fb_X16_number_l24 at e
    refine v_iload (pc' := 26) hc_X16_number dX16_number_24 rfl 3 rfl ?_
    refine v_iload_n (pc' := 27) hc_X16_number dX16_number_26 rfl rfl 1 rfl ?_
    refine v_icmp_ge (pt := 64) (pf := 30) hc_X16_number dX16_number_27 rfl rfl e (fun _ e => ?_) (fun _ e => ?_)
    · refine v_iload_n (pc' := 65) hc_X16_number dX16_number_64 rfl rfl 2 rfl ?_
      obtain ⟨rfl, rfl⟩ := ret_of e
      exact v_iret hc_X16_number rfl dX16_number_65 rfl rfl
    · refine v_aload_n (pc' := 31) hc_X16_number dX16_number_30 rfl rfl 0 rfl ?_
      refine v_bipush (pc' := 33) (v := 48) hc_X16_number dX16_number_31 rfl rfl ?_
      refine v_bipush (pc' := 35) (v := 57) hc_X16_number dX16_number_33 rfl rfl ?_
      obtain ⟨c1, e⟩ := gd_of e
      obtain ⟨r2, h3, e4, e⟩ := bd2_of e
      refine k_V (pc' := 38) (ci := 14) (n := 2) hc_X16_number ho_X16_number rfl c1 (w_X16_isAt D l hl x0 (48 : Int32) (57 : Int32) h e4) (wA_l q2033) q2035 (wA_l qs21) q118 q2036 hy_310 ⟨Nat.le_of_ble_eq_true rfl, Nat.le_of_ble_eq_true rfl⟩ rfl rfl (Nat.le_of_ble_eq_true rfl) dX16_number_35 rfl (kS ?_) kN
      refine v_if_eq (pt := 64) (pf := 41) hc_X16_number dX16_number_38 rfl rfl e (fun _ e => ?_) (fun _ e => ?_)
      · refine v_iload_n (pc' := 65) hc_X16_number dX16_number_64 rfl rfl 2 rfl ?_
        obtain ⟨rfl, rfl⟩ := ret_of e
        exact v_iret hc_X16_number rfl dX16_number_65 rfl rfl
      · refine v_bipush (pc' := 43) (v := 10) hc_X16_number dX16_number_41 rfl rfl ?_
        refine v_iload_n (pc' := 44) hc_X16_number dX16_number_43 rfl rfl 2 rfl ?_
        refine v_imul (pc' := 45) hc_X16_number dX16_number_44 rfl ?_
        refine v_aload_n (pc' := 46) hc_X16_number dX16_number_45 rfl rfl 0 rfl ?_
        refine v_bipush (pc' := 48) (v := 48) hc_X16_number dX16_number_46 rfl rfl ?_
        refine v_bipush (pc' := 50) (v := 57) hc_X16_number dX16_number_48 rfl rfl ?_
        obtain ⟨c5, e⟩ := gd_of e
        rcases bdX_of e with ⟨r6, h7, e8, e⟩ | ⟨zq9, h7, e8, e⟩
        · refine k_V (pc' := 53) (ci := 14) (n := 2) hc_X16_number ho_X16_number rfl c5 (w_X16_take D l hl x0 (48 : Int32) (57 : Int32) h3 e8) (wA_l q2060) q2062 (wA_l qs22) q118 q2063 hy_312 ⟨Nat.le_of_ble_eq_true rfl, Nat.le_of_ble_eq_true rfl⟩ rfl rfl (Nat.le_of_ble_eq_true rfl) dX16_number_50 rfl (kS ?_) kN
          refine v_iadd (pc' := 54) hc_X16_number dX16_number_53 rfl ?_
          refine v_bipush (pc' := 56) (v := 48) hc_X16_number dX16_number_54 rfl rfl ?_
          refine v_isub (pc' := 57) hc_X16_number dX16_number_56 rfl ?_
          refine v_istore_n (pc' := 58) (lv' := [(3, .int ((((10 : Int32) * x3) + r6) - (48 : Int32))), (0, .ref x0), (1, .int x1), (4, .int x4)]) hc_X16_number dX16_number_57 rfl rfl (Nat.le_of_ble_eq_true rfl) rfl ?_
          refine v_iinc (pc' := 61) (lv' := [(4, .int (x4 + 1)), (3, .int ((((10 : Int32) * x3) + r6) - (48 : Int32))), (0, .ref x0), (1, .int x1)]) (v := x4 + 1) hc_X16_number dX16_number_58 rfl 3 rfl rfl (Nat.le_of_ble_eq_true rfl) rfl ?_
          refine v_goto (pt := 24) hc_X16_number dX16_number_61 rfl ?_
          refine v_pick [2, 3, 1, 0] rfl ?_
          exact IH x0 x1 ((((10 : Int32) * x3) + r6) - (48 : Int32)) (x4 + 1) h7 e
        · refine k_V (pc' := 53) (ci := 14) (n := 2) hc_X16_number ho_X16_number rfl c5 (w_X16_take D l hl x0 (48 : Int32) (57 : Int32) h3 e8) (wA_l q2060) q2062 (wA_l qs22) q118 q2063 hy_312 ⟨Nat.le_of_ble_eq_true rfl, Nat.le_of_ble_eq_true rfl⟩ rfl rfl (Nat.le_of_ble_eq_true rfl) dX16_number_50 rfl kM (kX ?_)
          exact v_outA (hp_X16_number _) rfl rfl e
def f_X16_number (x0 : Nat) (x1 : Int32) (h : AH) : Option ((Int32 ⊕ Nat) × AH) :=
  gd (isC h 14 x0) <|
  bdX (f_X16_take x0 (32 : Int32) (32 : Int32) h) (fun zq10 h3 =>
    outX h3 zq10
  ) fun r2 h3 =>
  gd (isC h3 14 x0) <|
  bdX (f_X16_take x0 (48 : Int32) (57 : Int32) h3) (fun zq9 h7 =>
    outX h7 zq9
  ) fun r6 h7 =>
  f_X16_number_l24 NN x0 x1 (r6 - (48 : Int32)) (1 : Int32) h7
theorem v_X16_number (D : va_G) (l : Launch) (hl : l.stackTraces = false) (as : List Value) (h0 : AH) {r : (Int32 ⊕ Nat)} {hF : AH} (x0 : Nat) (x1 : Int32) (h : AH) (e : f_X16_number x0 x1 h = some (r, hF)) : V (G_X16_number D l as h0 hF ((oX oI) r)) h 0 [(0, .ref x0), (1, .int x1)] [] := by
  unfold f_X16_number at e
  refine v_aload_n (pc' := 1) hc_X16_number dX16_number_0 rfl rfl 0 rfl ?_
  refine v_bipush (pc' := 3) (v := 32) hc_X16_number dX16_number_1 rfl rfl ?_
  refine v_bipush (pc' := 5) (v := 32) hc_X16_number dX16_number_3 rfl rfl ?_
  obtain ⟨c1, e⟩ := gd_of e
  rcases bdX_of e with ⟨r2, h3, e4, e⟩ | ⟨zq10, h3, e4, e⟩
  · refine k_V (pc' := 8) (ci := 14) (n := 2) hc_X16_number ho_X16_number rfl c1 (w_X16_take D l hl x0 (32 : Int32) (32 : Int32) h e4) (wA_l q2060) q2062 (wA_l qs22) q118 q2063 hy_312 ⟨Nat.le_of_ble_eq_true rfl, Nat.le_of_ble_eq_true rfl⟩ rfl rfl (Nat.le_of_ble_eq_true rfl) dX16_number_5 rfl (kS ?_) kN
    refine v_istore_n (pc' := 9) (lv' := [(2, .int r2), (0, .ref x0), (1, .int x1)]) hc_X16_number dX16_number_8 rfl rfl (Nat.le_of_ble_eq_true rfl) rfl ?_
    refine v_aload_n (pc' := 10) hc_X16_number dX16_number_9 rfl rfl 1 rfl ?_
    refine v_bipush (pc' := 12) (v := 48) hc_X16_number dX16_number_10 rfl rfl ?_
    refine v_bipush (pc' := 14) (v := 57) hc_X16_number dX16_number_12 rfl rfl ?_
    obtain ⟨c5, e⟩ := gd_of e
    rcases bdX_of e with ⟨r6, h7, e8, e⟩ | ⟨zq9, h7, e8, e⟩
    · refine k_V (pc' := 17) (ci := 14) (n := 2) hc_X16_number ho_X16_number rfl c5 (w_X16_take D l hl x0 (48 : Int32) (57 : Int32) h3 e8) (wA_l q2060) q2062 (wA_l qs22) q118 q2063 hy_312 ⟨Nat.le_of_ble_eq_true rfl, Nat.le_of_ble_eq_true rfl⟩ rfl rfl (Nat.le_of_ble_eq_true rfl) dX16_number_14 rfl (kS ?_) kN
      refine v_bipush (pc' := 19) (v := 48) hc_X16_number dX16_number_17 rfl rfl ?_
      refine v_isub (pc' := 20) hc_X16_number dX16_number_19 rfl ?_
      refine v_istore_n (pc' := 21) (lv' := [(3, .int (r6 - (48 : Int32))), (2, .int r2), (0, .ref x0), (1, .int x1)]) hc_X16_number dX16_number_20 rfl rfl (Nat.le_of_ble_eq_true rfl) rfl ?_
      refine v_iconst (pc' := 22) (v := 1) hc_X16_number dX16_number_21 rfl rfl ?_
      refine v_istore (pc' := 24) (lv' := [(4, .int (1 : Int32)), (3, .int (r6 - (48 : Int32))), (2, .int r2), (0, .ref x0), (1, .int x1)]) hc_X16_number dX16_number_22 rfl (Nat.le_of_ble_eq_true rfl) rfl ?_
      refine v_pick [3, 4, 1, 0] rfl ?_
      exact w_X16_number_l24 D l hl as h0 NN x0 x1 (r6 - (48 : Int32)) (1 : Int32) h7 e
    · refine k_V (pc' := 17) (ci := 14) (n := 2) hc_X16_number ho_X16_number rfl c5 (w_X16_take D l hl x0 (48 : Int32) (57 : Int32) h3 e8) (wA_l q2060) q2062 (wA_l qs22) q118 q2063 hy_312 ⟨Nat.le_of_ble_eq_true rfl, Nat.le_of_ble_eq_true rfl⟩ rfl rfl (Nat.le_of_ble_eq_true rfl) dX16_number_14 rfl kM (kX ?_)
      exact v_outA (hp_X16_number _) rfl rfl e
  · refine k_V (pc' := 8) (ci := 14) (n := 2) hc_X16_number ho_X16_number rfl c1 (w_X16_take D l hl x0 (32 : Int32) (32 : Int32) h e4) (wA_l q2060) q2062 (wA_l qs22) q118 q2063 hy_312 ⟨Nat.le_of_ble_eq_true rfl, Nat.le_of_ble_eq_true rfl⟩ rfl rfl (Nat.le_of_ble_eq_true rfl) dX16_number_5 rfl kM (kX ?_)
    exact v_outA (hp_X16_number _) rfl rfl e
theorem w_X16_number (D : va_G) (l : Launch) (hl : l.stackTraces = false) (x0 : Nat) (x1 : Int32) (h : AH) {r : (Int32 ⊕ Nat)} {hF : AH} (e : f_X16_number x0 x1 h = some (r, hF)) : MetV D l yX16_number (Cond.code yX16_number cX16_number 5 (Option.some .int)) 7 180 [.ref x0, .int x1] h hF ((oX oI) r) :=
  met_ofF (by decide +kernel) hl (Nat.le_of_ble_eq_true rfl) rfl (v_X16_number D l hl [.ref x0, .int x1] h x0 x1 h e)
/-! BlockPapers$Parser.command()LBlockPapers$Deed;  -/
abbrev G_X16_command (D : va_G) (l : Launch) (as : List Value) (h0 hF : AH) (o : Out) : CT := (D, l, (yX16_command.cls, yX16_command, cX16_command, 6, (Option.some (.object "BlockPapers$Deed")), 8, 205, []), as, h0, hF, o)
theorem hc_X16_command {D : va_G} {l : Launch} {as : List Value} {h0 hF : AH} {o : Out} : gC (G_X16_command D l as h0 hF o) = cX16_command := rfl
theorem ho_X16_command {D : va_G} {l : Launch} {as : List Value} {h0 hF : AH} {o : Out} : gO (G_X16_command D l as h0 hF o) = "BlockPapers$Parser" := rfl
theorem hp_X16_command {D : va_G} {l : Launch} {as : List Value} {h0 hF : AH} {o : Out} (pc : Nat) : ∀ z ∈ tableOf (gHd (G_X16_command D l as h0 hF o)), covers z pc = false := hpN
def f_X16_command_j109 (x0 : Nat) (x1 : Nat) (x3 : Int32) (h : AH) : Option ((Nat ⊕ Nat) × AH) :=
  if x3 = 0 then (
    gd (isC h 14 x0) <|
    bdX (f_X16_number x0 (1 : Int32) h) (fun zq20 h3 =>
      outX h3 zq20
    ) fun r2 h3 =>
    gd (isC h3 14 x0) <|
    bdX (f_X16_number x0 (4 : Int32) h3) (fun zq19 h7 =>
      outX h7 zq19
    ) fun r6 h7 =>
    bd2 (nwX h7 3 4 fsX4) fun a10 h9 =>
    gd (isC h9 14 x0) <|
    bdX (f_X16_number x0 (4 : Int32) h9) (fun zq18 h13 =>
      outX h13 zq18
    ) fun r12 h13 =>
    bd2 (f_X4_init_2 a10 x1 r2 r6 r12 h13) fun r15 h16 =>
    some (.inl a10, h16)
  ) else (
  if x3 = 1 then (
    gd (isC h 14 x0) <|
    bdX (f_X16_number x0 (4 : Int32) h) (fun zq41 h24 =>
      outX h24 zq41
    ) fun r23 h24 =>
    gd (isC h24 14 x0) <|
    bdX (f_X16_number x0 (4 : Int32) h24) (fun zq40 h28 =>
      outX h28 zq40
    ) fun r27 h28 =>
    bd2 (nwX h28 3 4 fsX4) fun a31 h30 =>
    gd (isC h30 14 x0) <|
    bdX (f_X16_number x0 (4 : Int32) h30) (fun zq39 h34 =>
      outX h34 zq39
    ) fun r33 h34 =>
    bd2 (f_X4_init_2 a31 x1 r23 r27 r33 h34) fun r36 h37 =>
    some (.inl a31, h37)
  ) else (
  if x3 = 2 then (
    gd (isC h 14 x0) <|
    bdX (f_X16_number x0 (1 : Int32) h) (fun zq57 h45 =>
      outX h45 zq57
    ) fun r44 h45 =>
    bd2 (nwX h45 3 4 fsX4) fun a48 h47 =>
    gd (isC h47 14 x0) <|
    bdX (f_X16_number x0 (4 : Int32) h47) (fun zq56 h51 =>
      outX h51 zq56
    ) fun r50 h51 =>
    bd2 (f_X4_init a48 x1 r44 r50 h51) fun r53 h54 =>
    some (.inl a48, h54)
  ) else (
  if x3 = 3 then (
    bd2 (nwX h 3 4 fsX4) fun a60 h59 =>
    gd (isC h59 14 x0) <|
    bdX (f_X16_number x0 (4 : Int32) h59) (fun zq68 h63 =>
      outX h63 zq68
    ) fun r62 h63 =>
    bd2 (f_X4_init_3 a60 x1 r62 h63) fun r65 h66 =>
    some (.inl a60, h66)
  ) else (
  bd2 (nwX h 3 4 fsX4) fun a71 h70 =>
  gd (isC h70 14 x0) <|
  bdX (f_X16_number x0 (1 : Int32) h70) (fun zq79 h74 =>
    outX h74 zq79
  ) fun r73 h74 =>
  bd2 (f_X4_init_3 a71 x1 r73 h74) fun r76 h77 =>
  some (.inl a71, h77)
  ))))
theorem w_X16_command_j109 (D : va_G) (l : Launch) (hl : l.stackTraces = false) (as : List Value) (h0 : AH) {r : (Nat ⊕ Nat)} {hF : AH} (x0 : Nat) (x1 : Nat) (x3 : Int32) (h : AH) (e : f_X16_command_j109 x0 x1 x3 h = some (r, hF)) : V (G_X16_command D l as h0 hF ((oX oR) r)) h 109 [(0, .ref x0), (1, .ref x1), (3, .int x3)] [] := by
  unfold f_X16_command_j109 at e
  refine v_iload_n (pc' := 110) hc_X16_command dX16_command_109 rfl rfl 2 rfl ?_
  rcases ite_cs e with ⟨n21, e⟩ | ⟨n21, e⟩
  · refine v_tbl (off := 30) (pt := 140) hc_X16_command dX16_command_110 rfl rfl (by rw [n21]; rfl) rfl ?_
    refine v_aload_n (pc' := 141) hc_X16_command dX16_command_140 rfl rfl 0 rfl ?_
    refine v_iconst (pc' := 142) (v := 1) hc_X16_command dX16_command_141 rfl rfl ?_
    obtain ⟨c1, e⟩ := gd_of e
    rcases bdX_of e with ⟨r2, h3, e4, e⟩ | ⟨zq20, h3, e4, e⟩
    · refine k_V (pc' := 145) (ci := 14) (n := 1) hc_X16_command ho_X16_command rfl c1 (w_X16_number D l hl x0 (1 : Int32) h e4) (wA_l q2098) q2100 (wA_l qs23) q118 q2101 hy_320 ⟨Nat.le_of_ble_eq_true rfl, Nat.le_of_ble_eq_true rfl⟩ rfl rfl (Nat.le_of_ble_eq_true rfl) dX16_command_142 rfl (kS ?_) kN
      refine v_istore (pc' := 147) (lv' := [(4, .int r2), (0, .ref x0), (1, .ref x1), (3, .int x3)]) hc_X16_command dX16_command_145 rfl (Nat.le_of_ble_eq_true rfl) rfl ?_
      refine v_aload_n (pc' := 148) hc_X16_command dX16_command_147 rfl rfl 1 rfl ?_
      refine v_iconst (pc' := 149) (v := 4) hc_X16_command dX16_command_148 rfl rfl ?_
      obtain ⟨c5, e⟩ := gd_of e
      rcases bdX_of e with ⟨r6, h7, e8, e⟩ | ⟨zq19, h7, e8, e⟩
      · refine k_V (pc' := 152) (ci := 14) (n := 1) hc_X16_command ho_X16_command rfl c5 (w_X16_number D l hl x0 (4 : Int32) h3 e8) (wA_l q2098) q2100 (wA_l qs23) q118 q2101 hy_320 ⟨Nat.le_of_ble_eq_true rfl, Nat.le_of_ble_eq_true rfl⟩ rfl rfl (Nat.le_of_ble_eq_true rfl) dX16_command_149 rfl (kS ?_) kN
        refine v_istore (pc' := 154) (lv' := [(5, .int r6), (4, .int r2), (0, .ref x0), (1, .ref x1), (3, .int x3)]) hc_X16_command dX16_command_152 rfl (Nat.le_of_ble_eq_true rfl) rfl ?_
        refine v_newX (pc' := 157) hc_X16_command ho_X16_command KX4 q2102 q930 q86 rfl dfX4 dX16_command_154 rfl e (fun a10 h9 _ e => ?_)
        refine v_dup (pc' := 158) hc_X16_command dX16_command_157 rfl rfl ?_
        refine v_aload_n (pc' := 159) hc_X16_command dX16_command_158 rfl rfl 3 rfl ?_
        refine v_iload (pc' := 161) hc_X16_command dX16_command_159 rfl 1 rfl ?_
        refine v_iload (pc' := 163) hc_X16_command dX16_command_161 rfl 0 rfl ?_
        refine v_aload_n (pc' := 164) hc_X16_command dX16_command_163 rfl rfl 2 rfl ?_
        refine v_iconst (pc' := 165) (v := 4) hc_X16_command dX16_command_164 rfl rfl ?_
        obtain ⟨c11, e⟩ := gd_of e
        rcases bdX_of e with ⟨r12, h13, e14, e⟩ | ⟨zq18, h13, e14, e⟩
        · refine k_V (pc' := 168) (ci := 14) (n := 1) hc_X16_command ho_X16_command rfl c11 (w_X16_number D l hl x0 (4 : Int32) h9 e14) (wA_l q2098) q2100 (wA_l qs23) q118 q2101 hy_320 ⟨Nat.le_of_ble_eq_true rfl, Nat.le_of_ble_eq_true rfl⟩ rfl rfl (Nat.le_of_ble_eq_true rfl) dX16_command_165 rfl (kS ?_) kN
          obtain ⟨r15, h16, e17, e⟩ := bd2_of e
          refine k_I (pc' := 171) (n := 4) hc_X16_command ho_X16_command (w_X4_init_2 D l hl a10 x1 r2 r6 r12 h13 e17) (wA_l q2103) q936 q86 q937 rfl hy_9 ⟨Nat.le_of_ble_eq_true rfl, Nat.le_of_ble_eq_true rfl⟩ rfl rfl (Nat.le_of_ble_eq_true rfl) dX16_command_168 rfl (kU ?_) kN
          obtain ⟨rfl, rfl⟩ := ret_of e
          exact v_aret hc_X16_command rfl (Or.inl ⟨_, rfl⟩) (Or.inr ⟨_, rfl⟩) dX16_command_171 rfl rfl
        · refine k_V (pc' := 168) (ci := 14) (n := 1) hc_X16_command ho_X16_command rfl c11 (w_X16_number D l hl x0 (4 : Int32) h9 e14) (wA_l q2098) q2100 (wA_l qs23) q118 q2101 hy_320 ⟨Nat.le_of_ble_eq_true rfl, Nat.le_of_ble_eq_true rfl⟩ rfl rfl (Nat.le_of_ble_eq_true rfl) dX16_command_165 rfl kM (kX ?_)
          exact v_outA (hp_X16_command _) rfl rfl e
      · refine k_V (pc' := 152) (ci := 14) (n := 1) hc_X16_command ho_X16_command rfl c5 (w_X16_number D l hl x0 (4 : Int32) h3 e8) (wA_l q2098) q2100 (wA_l qs23) q118 q2101 hy_320 ⟨Nat.le_of_ble_eq_true rfl, Nat.le_of_ble_eq_true rfl⟩ rfl rfl (Nat.le_of_ble_eq_true rfl) dX16_command_149 rfl kM (kX ?_)
        exact v_outA (hp_X16_command _) rfl rfl e
    · refine k_V (pc' := 145) (ci := 14) (n := 1) hc_X16_command ho_X16_command rfl c1 (w_X16_number D l hl x0 (1 : Int32) h e4) (wA_l q2098) q2100 (wA_l qs23) q118 q2101 hy_320 ⟨Nat.le_of_ble_eq_true rfl, Nat.le_of_ble_eq_true rfl⟩ rfl rfl (Nat.le_of_ble_eq_true rfl) dX16_command_142 rfl kM (kX ?_)
      exact v_outA (hp_X16_command _) rfl rfl e
  rcases ite_cs e with ⟨n42, e⟩ | ⟨n42, e⟩
  · refine v_tbl (off := 62) (pt := 172) hc_X16_command dX16_command_110 rfl rfl (by rw [n42]; rfl) rfl ?_
    refine v_aload_n (pc' := 173) hc_X16_command dX16_command_172 rfl rfl 0 rfl ?_
    refine v_iconst (pc' := 174) (v := 4) hc_X16_command dX16_command_173 rfl rfl ?_
    obtain ⟨c22, e⟩ := gd_of e
    rcases bdX_of e with ⟨r23, h24, e25, e⟩ | ⟨zq41, h24, e25, e⟩
    · refine k_V (pc' := 177) (ci := 14) (n := 1) hc_X16_command ho_X16_command rfl c22 (w_X16_number D l hl x0 (4 : Int32) h e25) (wA_l q2098) q2100 (wA_l qs23) q118 q2101 hy_320 ⟨Nat.le_of_ble_eq_true rfl, Nat.le_of_ble_eq_true rfl⟩ rfl rfl (Nat.le_of_ble_eq_true rfl) dX16_command_174 rfl (kS ?_) kN
      refine v_istore (pc' := 179) (lv' := [(4, .int r23), (0, .ref x0), (1, .ref x1), (3, .int x3)]) hc_X16_command dX16_command_177 rfl (Nat.le_of_ble_eq_true rfl) rfl ?_
      refine v_aload_n (pc' := 180) hc_X16_command dX16_command_179 rfl rfl 1 rfl ?_
      refine v_iconst (pc' := 181) (v := 4) hc_X16_command dX16_command_180 rfl rfl ?_
      obtain ⟨c26, e⟩ := gd_of e
      rcases bdX_of e with ⟨r27, h28, e29, e⟩ | ⟨zq40, h28, e29, e⟩
      · refine k_V (pc' := 184) (ci := 14) (n := 1) hc_X16_command ho_X16_command rfl c26 (w_X16_number D l hl x0 (4 : Int32) h24 e29) (wA_l q2098) q2100 (wA_l qs23) q118 q2101 hy_320 ⟨Nat.le_of_ble_eq_true rfl, Nat.le_of_ble_eq_true rfl⟩ rfl rfl (Nat.le_of_ble_eq_true rfl) dX16_command_181 rfl (kS ?_) kN
        refine v_istore (pc' := 186) (lv' := [(5, .int r27), (4, .int r23), (0, .ref x0), (1, .ref x1), (3, .int x3)]) hc_X16_command dX16_command_184 rfl (Nat.le_of_ble_eq_true rfl) rfl ?_
        refine v_newX (pc' := 189) hc_X16_command ho_X16_command KX4 q2102 q930 q86 rfl dfX4 dX16_command_186 rfl e (fun a31 h30 _ e => ?_)
        refine v_dup (pc' := 190) hc_X16_command dX16_command_189 rfl rfl ?_
        refine v_aload_n (pc' := 191) hc_X16_command dX16_command_190 rfl rfl 3 rfl ?_
        refine v_iload (pc' := 193) hc_X16_command dX16_command_191 rfl 1 rfl ?_
        refine v_iload (pc' := 195) hc_X16_command dX16_command_193 rfl 0 rfl ?_
        refine v_aload_n (pc' := 196) hc_X16_command dX16_command_195 rfl rfl 2 rfl ?_
        refine v_iconst (pc' := 197) (v := 4) hc_X16_command dX16_command_196 rfl rfl ?_
        obtain ⟨c32, e⟩ := gd_of e
        rcases bdX_of e with ⟨r33, h34, e35, e⟩ | ⟨zq39, h34, e35, e⟩
        · refine k_V (pc' := 200) (ci := 14) (n := 1) hc_X16_command ho_X16_command rfl c32 (w_X16_number D l hl x0 (4 : Int32) h30 e35) (wA_l q2098) q2100 (wA_l qs23) q118 q2101 hy_320 ⟨Nat.le_of_ble_eq_true rfl, Nat.le_of_ble_eq_true rfl⟩ rfl rfl (Nat.le_of_ble_eq_true rfl) dX16_command_197 rfl (kS ?_) kN
          obtain ⟨r36, h37, e38, e⟩ := bd2_of e
          refine k_I (pc' := 203) (n := 4) hc_X16_command ho_X16_command (w_X4_init_2 D l hl a31 x1 r23 r27 r33 h34 e38) (wA_l q2103) q936 q86 q937 rfl hy_9 ⟨Nat.le_of_ble_eq_true rfl, Nat.le_of_ble_eq_true rfl⟩ rfl rfl (Nat.le_of_ble_eq_true rfl) dX16_command_200 rfl (kU ?_) kN
          obtain ⟨rfl, rfl⟩ := ret_of e
          exact v_aret hc_X16_command rfl (Or.inl ⟨_, rfl⟩) (Or.inr ⟨_, rfl⟩) dX16_command_203 rfl rfl
        · refine k_V (pc' := 200) (ci := 14) (n := 1) hc_X16_command ho_X16_command rfl c32 (w_X16_number D l hl x0 (4 : Int32) h30 e35) (wA_l q2098) q2100 (wA_l qs23) q118 q2101 hy_320 ⟨Nat.le_of_ble_eq_true rfl, Nat.le_of_ble_eq_true rfl⟩ rfl rfl (Nat.le_of_ble_eq_true rfl) dX16_command_197 rfl kM (kX ?_)
          exact v_outA (hp_X16_command _) rfl rfl e
      · refine k_V (pc' := 184) (ci := 14) (n := 1) hc_X16_command ho_X16_command rfl c26 (w_X16_number D l hl x0 (4 : Int32) h24 e29) (wA_l q2098) q2100 (wA_l qs23) q118 q2101 hy_320 ⟨Nat.le_of_ble_eq_true rfl, Nat.le_of_ble_eq_true rfl⟩ rfl rfl (Nat.le_of_ble_eq_true rfl) dX16_command_181 rfl kM (kX ?_)
        exact v_outA (hp_X16_command _) rfl rfl e
    · refine k_V (pc' := 177) (ci := 14) (n := 1) hc_X16_command ho_X16_command rfl c22 (w_X16_number D l hl x0 (4 : Int32) h e25) (wA_l q2098) q2100 (wA_l qs23) q118 q2101 hy_320 ⟨Nat.le_of_ble_eq_true rfl, Nat.le_of_ble_eq_true rfl⟩ rfl rfl (Nat.le_of_ble_eq_true rfl) dX16_command_174 rfl kM (kX ?_)
      exact v_outA (hp_X16_command _) rfl rfl e
  rcases ite_cs e with ⟨n58, e⟩ | ⟨n58, e⟩
  · refine v_tbl (off := 94) (pt := 204) hc_X16_command dX16_command_110 rfl rfl (by rw [n58]; rfl) rfl ?_
    refine v_aload_n (pc' := 205) hc_X16_command dX16_command_204 rfl rfl 0 rfl ?_
    refine v_iconst (pc' := 206) (v := 1) hc_X16_command dX16_command_205 rfl rfl ?_
    obtain ⟨c43, e⟩ := gd_of e
    rcases bdX_of e with ⟨r44, h45, e46, e⟩ | ⟨zq57, h45, e46, e⟩
    · refine k_V (pc' := 209) (ci := 14) (n := 1) hc_X16_command ho_X16_command rfl c43 (w_X16_number D l hl x0 (1 : Int32) h e46) (wA_l q2098) q2100 (wA_l qs23) q118 q2101 hy_320 ⟨Nat.le_of_ble_eq_true rfl, Nat.le_of_ble_eq_true rfl⟩ rfl rfl (Nat.le_of_ble_eq_true rfl) dX16_command_206 rfl (kS ?_) kN
      refine v_istore (pc' := 211) (lv' := [(4, .int r44), (0, .ref x0), (1, .ref x1), (3, .int x3)]) hc_X16_command dX16_command_209 rfl (Nat.le_of_ble_eq_true rfl) rfl ?_
      refine v_newX (pc' := 214) hc_X16_command ho_X16_command KX4 q2102 q930 q86 rfl dfX4 dX16_command_211 rfl e (fun a48 h47 _ e => ?_)
      refine v_dup (pc' := 215) hc_X16_command dX16_command_214 rfl rfl ?_
      refine v_aload_n (pc' := 216) hc_X16_command dX16_command_215 rfl rfl 2 rfl ?_
      refine v_iload (pc' := 218) hc_X16_command dX16_command_216 rfl 0 rfl ?_
      refine v_aload_n (pc' := 219) hc_X16_command dX16_command_218 rfl rfl 1 rfl ?_
      refine v_iconst (pc' := 220) (v := 4) hc_X16_command dX16_command_219 rfl rfl ?_
      obtain ⟨c49, e⟩ := gd_of e
      rcases bdX_of e with ⟨r50, h51, e52, e⟩ | ⟨zq56, h51, e52, e⟩
      · refine k_V (pc' := 223) (ci := 14) (n := 1) hc_X16_command ho_X16_command rfl c49 (w_X16_number D l hl x0 (4 : Int32) h47 e52) (wA_l q2098) q2100 (wA_l qs23) q118 q2101 hy_320 ⟨Nat.le_of_ble_eq_true rfl, Nat.le_of_ble_eq_true rfl⟩ rfl rfl (Nat.le_of_ble_eq_true rfl) dX16_command_220 rfl (kS ?_) kN
        obtain ⟨r53, h54, e55, e⟩ := bd2_of e
        refine k_I (pc' := 226) (n := 3) hc_X16_command ho_X16_command (w_X4_init D l hl a48 x1 r44 r50 h51 e55) (wA_l q2104) q933 q86 q934 rfl hy_10 ⟨Nat.le_of_ble_eq_true rfl, Nat.le_of_ble_eq_true rfl⟩ rfl rfl (Nat.le_of_ble_eq_true rfl) dX16_command_223 rfl (kU ?_) kN
        obtain ⟨rfl, rfl⟩ := ret_of e
        exact v_aret hc_X16_command rfl (Or.inl ⟨_, rfl⟩) (Or.inr ⟨_, rfl⟩) dX16_command_226 rfl rfl
      · refine k_V (pc' := 223) (ci := 14) (n := 1) hc_X16_command ho_X16_command rfl c49 (w_X16_number D l hl x0 (4 : Int32) h47 e52) (wA_l q2098) q2100 (wA_l qs23) q118 q2101 hy_320 ⟨Nat.le_of_ble_eq_true rfl, Nat.le_of_ble_eq_true rfl⟩ rfl rfl (Nat.le_of_ble_eq_true rfl) dX16_command_220 rfl kM (kX ?_)
        exact v_outA (hp_X16_command _) rfl rfl e
    · refine k_V (pc' := 209) (ci := 14) (n := 1) hc_X16_command ho_X16_command rfl c43 (w_X16_number D l hl x0 (1 : Int32) h e46) (wA_l q2098) q2100 (wA_l qs23) q118 q2101 hy_320 ⟨Nat.le_of_ble_eq_true rfl, Nat.le_of_ble_eq_true rfl⟩ rfl rfl (Nat.le_of_ble_eq_true rfl) dX16_command_206 rfl kM (kX ?_)
      exact v_outA (hp_X16_command _) rfl rfl e
  rcases ite_cs e with ⟨n69, e⟩ | ⟨n69, e⟩
  · refine v_tbl (off := 117) (pt := 227) hc_X16_command dX16_command_110 rfl rfl (by rw [n69]; rfl) rfl ?_
    refine v_newX (pc' := 230) hc_X16_command ho_X16_command KX4 q2102 q930 q86 rfl dfX4 dX16_command_227 rfl e (fun a60 h59 _ e => ?_)
    refine v_dup (pc' := 231) hc_X16_command dX16_command_230 rfl rfl ?_
    refine v_aload_n (pc' := 232) hc_X16_command dX16_command_231 rfl rfl 1 rfl ?_
    refine v_aload_n (pc' := 233) hc_X16_command dX16_command_232 rfl rfl 0 rfl ?_
    refine v_iconst (pc' := 234) (v := 4) hc_X16_command dX16_command_233 rfl rfl ?_
    obtain ⟨c61, e⟩ := gd_of e
    rcases bdX_of e with ⟨r62, h63, e64, e⟩ | ⟨zq68, h63, e64, e⟩
    · refine k_V (pc' := 237) (ci := 14) (n := 1) hc_X16_command ho_X16_command rfl c61 (w_X16_number D l hl x0 (4 : Int32) h59 e64) (wA_l q2098) q2100 (wA_l qs23) q118 q2101 hy_320 ⟨Nat.le_of_ble_eq_true rfl, Nat.le_of_ble_eq_true rfl⟩ rfl rfl (Nat.le_of_ble_eq_true rfl) dX16_command_234 rfl (kS ?_) kN
      obtain ⟨r65, h66, e67, e⟩ := bd2_of e
      refine k_I (pc' := 240) (n := 2) hc_X16_command ho_X16_command (w_X4_init_3 D l hl a60 x1 r62 h63 e67) (wA_l q2105) q1578 q86 q1579 rfl hy_133 ⟨Nat.le_of_ble_eq_true rfl, Nat.le_of_ble_eq_true rfl⟩ rfl rfl (Nat.le_of_ble_eq_true rfl) dX16_command_237 rfl (kU ?_) kN
      obtain ⟨rfl, rfl⟩ := ret_of e
      exact v_aret hc_X16_command rfl (Or.inl ⟨_, rfl⟩) (Or.inr ⟨_, rfl⟩) dX16_command_240 rfl rfl
    · refine k_V (pc' := 237) (ci := 14) (n := 1) hc_X16_command ho_X16_command rfl c61 (w_X16_number D l hl x0 (4 : Int32) h59 e64) (wA_l q2098) q2100 (wA_l qs23) q118 q2101 hy_320 ⟨Nat.le_of_ble_eq_true rfl, Nat.le_of_ble_eq_true rfl⟩ rfl rfl (Nat.le_of_ble_eq_true rfl) dX16_command_234 rfl kM (kX ?_)
      exact v_outA (hp_X16_command _) rfl rfl e
  refine v_tbl (off := 131) (pt := 241) hc_X16_command dX16_command_110 rfl rfl (lk_c (lk_n n21 rfl) (lk_c (lk_n n42 rfl) (lk_c (lk_n n58 rfl) (lk_c (lk_n n69 rfl) lk_z)))) rfl ?_
  refine v_newX (pc' := 244) hc_X16_command ho_X16_command KX4 q2102 q930 q86 rfl dfX4 dX16_command_241 rfl e (fun a71 h70 _ e => ?_)
  refine v_dup (pc' := 245) hc_X16_command dX16_command_244 rfl rfl ?_
  refine v_aload_n (pc' := 246) hc_X16_command dX16_command_245 rfl rfl 1 rfl ?_
  refine v_aload_n (pc' := 247) hc_X16_command dX16_command_246 rfl rfl 0 rfl ?_
  refine v_iconst (pc' := 248) (v := 1) hc_X16_command dX16_command_247 rfl rfl ?_
  obtain ⟨c72, e⟩ := gd_of e
  rcases bdX_of e with ⟨r73, h74, e75, e⟩ | ⟨zq79, h74, e75, e⟩
  · refine k_V (pc' := 251) (ci := 14) (n := 1) hc_X16_command ho_X16_command rfl c72 (w_X16_number D l hl x0 (1 : Int32) h70 e75) (wA_l q2098) q2100 (wA_l qs23) q118 q2101 hy_320 ⟨Nat.le_of_ble_eq_true rfl, Nat.le_of_ble_eq_true rfl⟩ rfl rfl (Nat.le_of_ble_eq_true rfl) dX16_command_248 rfl (kS ?_) kN
    obtain ⟨r76, h77, e78, e⟩ := bd2_of e
    refine k_I (pc' := 254) (n := 2) hc_X16_command ho_X16_command (w_X4_init_3 D l hl a71 x1 r73 h74 e78) (wA_l q2105) q1578 q86 q1579 rfl hy_133 ⟨Nat.le_of_ble_eq_true rfl, Nat.le_of_ble_eq_true rfl⟩ rfl rfl (Nat.le_of_ble_eq_true rfl) dX16_command_251 rfl (kU ?_) kN
    obtain ⟨rfl, rfl⟩ := ret_of e
    exact v_aret hc_X16_command rfl (Or.inl ⟨_, rfl⟩) (Or.inr ⟨_, rfl⟩) dX16_command_254 rfl rfl
  · refine k_V (pc' := 251) (ci := 14) (n := 1) hc_X16_command ho_X16_command rfl c72 (w_X16_number D l hl x0 (1 : Int32) h70 e75) (wA_l q2098) q2100 (wA_l qs23) q118 q2101 hy_320 ⟨Nat.le_of_ble_eq_true rfl, Nat.le_of_ble_eq_true rfl⟩ rfl rfl (Nat.le_of_ble_eq_true rfl) dX16_command_248 rfl kM (kX ?_)
    exact v_outA (hp_X16_command _) rfl rfl e
def f_X16_command (x0 : Nat) (h : AH) : Option ((Nat ⊕ Nat) × AH) :=
  gd (isC h 14 x0) <|
  bdX (f_X16_word x0 h) (fun zq33 h3 =>
    outX h3 zq33
  ) fun r2 h3 =>
  gd (isC h3 19 r2) <|
  bd2 (f_J6_hashCode r2 h3) fun r6 h7 =>
  if r6 = 108124 then (
    bd (aE h7 104) fun v9 =>
    gd (isC h7 19 r2) <|
    bd2 (f_J6_equals r2 v9 h7) fun r11 h12 =>
    if r11 = 0 then (
      f_X16_command_j109 x0 r2 (-1 : Int32) h12
    ) else (
      f_X16_command_j109 x0 r2 (1 : Int32) h12
    )
  ) else (
  if r6 = 3015911 then (
    bd (aE h7 106) fun v15 =>
    gd (isC h7 19 r2) <|
    bd2 (f_J6_equals r2 v15 h7) fun r17 h18 =>
    if r17 = 0 then (
      f_X16_command_j109 x0 r2 (-1 : Int32) h18
    ) else (
      f_X16_command_j109 x0 r2 (3 : Int32) h18
    )
  ) else (
  if r6 = 3194994 then (
    bd (aE h7 108) fun v21 =>
    gd (isC h7 19 r2) <|
    bd2 (f_J6_equals r2 v21 h7) fun r23 h24 =>
    if r23 = 0 then (
      f_X16_command_j109 x0 r2 (-1 : Int32) h24
    ) else (
      f_X16_command_j109 x0 r2 (2 : Int32) h24
    )
  ) else (
  if r6 = 106934957 then (
    bd (aE h7 105) fun v27 =>
    gd (isC h7 19 r2) <|
    bd2 (f_J6_equals r2 v27 h7) fun r29 h30 =>
    if r29 = 0 then (
      f_X16_command_j109 x0 r2 (-1 : Int32) h30
    ) else (
      f_X16_command_j109 x0 r2 (0 : Int32) h30
    )
  ) else (
  f_X16_command_j109 x0 r2 (-1 : Int32) h7
  ))))
theorem v_X16_command (D : va_G) (l : Launch) (hl : l.stackTraces = false) (as : List Value) (h0 : AH) {r : (Nat ⊕ Nat)} {hF : AH} (x0 : Nat) (h : AH) (e : f_X16_command x0 h = some (r, hF)) : V (G_X16_command D l as h0 hF ((oX oR) r)) h 0 [(0, .ref x0)] [] := by
  unfold f_X16_command at e
  refine v_aload_n (pc' := 1) hc_X16_command dX16_command_0 rfl rfl 0 rfl ?_
  obtain ⟨c1, e⟩ := gd_of e
  rcases bdX_of e with ⟨r2, h3, e4, e⟩ | ⟨zq33, h3, e4, e⟩
  · refine k_V (pc' := 4) (ci := 14) (n := 0) hc_X16_command ho_X16_command rfl c1 (w_X16_word D l hl x0 h e4) (wA_l q1985) q1987 (wA_l qs20) q118 q1988 hy_319 ⟨Nat.le_of_ble_eq_true rfl, Nat.le_of_ble_eq_true rfl⟩ rfl rfl (Nat.le_of_ble_eq_true rfl) dX16_command_1 rfl (kS ?_) kN
    refine v_astore_n (pc' := 5) (lv' := [(1, .ref r2), (0, .ref x0)]) hc_X16_command dX16_command_4 rfl rfl (Nat.le_of_ble_eq_true rfl) rfl ?_
    refine v_aload_n (pc' := 6) hc_X16_command dX16_command_5 rfl rfl 0 rfl ?_
    refine v_astore_n (pc' := 7) (lv' := [(2, .ref r2), (1, .ref r2), (0, .ref x0)]) hc_X16_command dX16_command_6 rfl rfl (Nat.le_of_ble_eq_true rfl) rfl ?_
    refine v_iconst (pc' := 8) (v := (-1)) hc_X16_command dX16_command_7 rfl rfl ?_
    refine v_istore_n (pc' := 9) (lv' := [(3, .int (-1 : Int32)), (2, .ref r2), (1, .ref r2), (0, .ref x0)]) hc_X16_command dX16_command_8 rfl rfl (Nat.le_of_ble_eq_true rfl) rfl ?_
    refine v_aload_n (pc' := 10) hc_X16_command dX16_command_9 rfl rfl 1 rfl ?_
    obtain ⟨c5, e⟩ := gd_of e
    obtain ⟨r6, h7, e8, e⟩ := bd2_of e
    refine k_V (pc' := 13) (ci := 19) (n := 0) hc_X16_command ho_X16_command rfl c5 (w_J6_hashCode D l hl r2 h3 e8) (wA_l q2092) q1007 (wA_l q1008) q83 q1009 hy_36 ⟨Nat.le_of_ble_eq_true rfl, Nat.le_of_ble_eq_true rfl⟩ rfl rfl (Nat.le_of_ble_eq_true rfl) dX16_command_10 rfl (kS ?_) kN
    rcases ite_cs e with ⟨n14, e⟩ | ⟨n14, e⟩
    · refine v_lookup (off := 57) (pt := 70) hc_X16_command dX16_command_13 (by decide) (by rw [n14]; rfl) rfl ?_
      refine v_aload_n (pc' := 71) hc_X16_command dX16_command_70 rfl rfl 1 rfl ?_
      refine v_ldcS (pc' := 73) (tx := "mix") (j := 104) hc_X16_command ho_X16_command (by decide +kernel) dX16_command_71 rfl e (fun v9 _ e => ?_)
      obtain ⟨c10, e⟩ := gd_of e
      obtain ⟨r11, h12, e13, e⟩ := bd2_of e
      refine k_V (pc' := 76) (ci := 19) (n := 1) hc_X16_command ho_X16_command rfl c10 (w_J6_equals D l hl r2 v9 h7 e13) (wA_l q2094) q1069 (wA_l q1070) q83 q1071 hy_38 ⟨Nat.le_of_ble_eq_true rfl, Nat.le_of_ble_eq_true rfl⟩ rfl rfl (Nat.le_of_ble_eq_true rfl) dX16_command_73 rfl (kS ?_) kN
      refine v_if_eq (pt := 109) (pf := 79) hc_X16_command dX16_command_76 rfl rfl e (fun _ e => ?_) (fun _ e => ?_)
      · refine v_pick [3, 2, 0] rfl ?_
        exact w_X16_command_j109 D l hl as h0 x0 r2 (-1 : Int32) h12 e
      · refine v_iconst (pc' := 80) (v := 1) hc_X16_command dX16_command_79 rfl rfl ?_
        refine v_istore_n (pc' := 81) (lv' := [(3, .int (1 : Int32)), (2, .ref r2), (1, .ref r2), (0, .ref x0)]) hc_X16_command dX16_command_80 rfl rfl (Nat.le_of_ble_eq_true rfl) rfl ?_
        refine v_goto (pt := 109) hc_X16_command dX16_command_81 rfl ?_
        refine v_pick [3, 2, 0] rfl ?_
        exact w_X16_command_j109 D l hl as h0 x0 r2 (1 : Int32) h12 e
    rcases ite_cs e with ⟨n20, e⟩ | ⟨n20, e⟩
    · refine v_lookup (off := 85) (pt := 98) hc_X16_command dX16_command_13 (by decide) (by rw [n20]; rfl) rfl ?_
      refine v_aload_n (pc' := 99) hc_X16_command dX16_command_98 rfl rfl 1 rfl ?_
      refine v_ldcS (pc' := 101) (tx := "back") (j := 106) hc_X16_command ho_X16_command (by decide +kernel) dX16_command_99 rfl e (fun v15 _ e => ?_)
      obtain ⟨c16, e⟩ := gd_of e
      obtain ⟨r17, h18, e19, e⟩ := bd2_of e
      refine k_V (pc' := 104) (ci := 19) (n := 1) hc_X16_command ho_X16_command rfl c16 (w_J6_equals D l hl r2 v15 h7 e19) (wA_l q2094) q1069 (wA_l q1070) q83 q1071 hy_38 ⟨Nat.le_of_ble_eq_true rfl, Nat.le_of_ble_eq_true rfl⟩ rfl rfl (Nat.le_of_ble_eq_true rfl) dX16_command_101 rfl (kS ?_) kN
      refine v_if_eq (pt := 109) (pf := 107) hc_X16_command dX16_command_104 rfl rfl e (fun _ e => ?_) (fun _ e => ?_)
      · refine v_pick [3, 2, 0] rfl ?_
        exact w_X16_command_j109 D l hl as h0 x0 r2 (-1 : Int32) h18 e
      · refine v_iconst (pc' := 108) (v := 3) hc_X16_command dX16_command_107 rfl rfl ?_
        refine v_istore_n (pc' := 109) (lv' := [(3, .int (3 : Int32)), (2, .ref r2), (1, .ref r2), (0, .ref x0)]) hc_X16_command dX16_command_108 rfl rfl (Nat.le_of_ble_eq_true rfl) rfl ?_
        refine v_pick [3, 2, 0] rfl ?_
        exact w_X16_command_j109 D l hl as h0 x0 r2 (3 : Int32) h18 e
    rcases ite_cs e with ⟨n26, e⟩ | ⟨n26, e⟩
    · refine v_lookup (off := 71) (pt := 84) hc_X16_command dX16_command_13 (by decide) (by rw [n26]; rfl) rfl ?_
      refine v_aload_n (pc' := 85) hc_X16_command dX16_command_84 rfl rfl 1 rfl ?_
      refine v_ldcS (pc' := 87) (tx := "hang") (j := 108) hc_X16_command ho_X16_command (by decide +kernel) dX16_command_85 rfl e (fun v21 _ e => ?_)
      obtain ⟨c22, e⟩ := gd_of e
      obtain ⟨r23, h24, e25, e⟩ := bd2_of e
      refine k_V (pc' := 90) (ci := 19) (n := 1) hc_X16_command ho_X16_command rfl c22 (w_J6_equals D l hl r2 v21 h7 e25) (wA_l q2094) q1069 (wA_l q1070) q83 q1071 hy_38 ⟨Nat.le_of_ble_eq_true rfl, Nat.le_of_ble_eq_true rfl⟩ rfl rfl (Nat.le_of_ble_eq_true rfl) dX16_command_87 rfl (kS ?_) kN
      refine v_if_eq (pt := 109) (pf := 93) hc_X16_command dX16_command_90 rfl rfl e (fun _ e => ?_) (fun _ e => ?_)
      · refine v_pick [3, 2, 0] rfl ?_
        exact w_X16_command_j109 D l hl as h0 x0 r2 (-1 : Int32) h24 e
      · refine v_iconst (pc' := 94) (v := 2) hc_X16_command dX16_command_93 rfl rfl ?_
        refine v_istore_n (pc' := 95) (lv' := [(3, .int (2 : Int32)), (2, .ref r2), (1, .ref r2), (0, .ref x0)]) hc_X16_command dX16_command_94 rfl rfl (Nat.le_of_ble_eq_true rfl) rfl ?_
        refine v_goto (pt := 109) hc_X16_command dX16_command_95 rfl ?_
        refine v_pick [3, 2, 0] rfl ?_
        exact w_X16_command_j109 D l hl as h0 x0 r2 (2 : Int32) h24 e
    rcases ite_cs e with ⟨n32, e⟩ | ⟨n32, e⟩
    · refine v_lookup (off := 43) (pt := 56) hc_X16_command dX16_command_13 (by decide) (by rw [n32]; rfl) rfl ?_
      refine v_aload_n (pc' := 57) hc_X16_command dX16_command_56 rfl rfl 1 rfl ?_
      refine v_ldcS (pc' := 59) (tx := "print") (j := 105) hc_X16_command ho_X16_command (by decide +kernel) dX16_command_57 rfl e (fun v27 _ e => ?_)
      obtain ⟨c28, e⟩ := gd_of e
      obtain ⟨r29, h30, e31, e⟩ := bd2_of e
      refine k_V (pc' := 62) (ci := 19) (n := 1) hc_X16_command ho_X16_command rfl c28 (w_J6_equals D l hl r2 v27 h7 e31) (wA_l q2094) q1069 (wA_l q1070) q83 q1071 hy_38 ⟨Nat.le_of_ble_eq_true rfl, Nat.le_of_ble_eq_true rfl⟩ rfl rfl (Nat.le_of_ble_eq_true rfl) dX16_command_59 rfl (kS ?_) kN
      refine v_if_eq (pt := 109) (pf := 65) hc_X16_command dX16_command_62 rfl rfl e (fun _ e => ?_) (fun _ e => ?_)
      · refine v_pick [3, 2, 0] rfl ?_
        exact w_X16_command_j109 D l hl as h0 x0 r2 (-1 : Int32) h30 e
      · refine v_iconst (pc' := 66) (v := 0) hc_X16_command dX16_command_65 rfl rfl ?_
        refine v_istore_n (pc' := 67) (lv' := [(3, .int (0 : Int32)), (2, .ref r2), (1, .ref r2), (0, .ref x0)]) hc_X16_command dX16_command_66 rfl rfl (Nat.le_of_ble_eq_true rfl) rfl ?_
        refine v_goto (pt := 109) hc_X16_command dX16_command_67 rfl ?_
        refine v_pick [3, 2, 0] rfl ?_
        exact w_X16_command_j109 D l hl as h0 x0 r2 (0 : Int32) h30 e
    refine v_lookup (off := 96) (pt := 109) hc_X16_command dX16_command_13 (by decide) (lk_c (lk_n n14 rfl) (lk_c (lk_n n20 rfl) (lk_c (lk_n n26 rfl) (lk_c (lk_n n32 rfl) lk_z)))) rfl ?_
    refine v_pick [3, 2, 0] rfl ?_
    exact w_X16_command_j109 D l hl as h0 x0 r2 (-1 : Int32) h7 e
  · refine k_V (pc' := 4) (ci := 14) (n := 0) hc_X16_command ho_X16_command rfl c1 (w_X16_word D l hl x0 h e4) (wA_l q1985) q1987 (wA_l qs20) q118 q1988 hy_319 ⟨Nat.le_of_ble_eq_true rfl, Nat.le_of_ble_eq_true rfl⟩ rfl rfl (Nat.le_of_ble_eq_true rfl) dX16_command_1 rfl kM (kX ?_)
    exact v_outA (hp_X16_command _) rfl rfl e
theorem w_X16_command (D : va_G) (l : Launch) (hl : l.stackTraces = false) (x0 : Nat) (h : AH) {r : (Nat ⊕ Nat)} {hF : AH} (e : f_X16_command x0 h = some (r, hF)) : MetV D l yX16_command (Cond.code yX16_command cX16_command 6 (Option.some (.object "BlockPapers$Deed"))) 8 205 [.ref x0] h hF ((oX oR) r) :=
  met_ofF (by decide +kernel) hl (Nat.le_of_ble_eq_true rfl) rfl (v_X16_command D l hl [.ref x0] h x0 h e)
/-! BlockPapers$Parser.text()Ljava/util/List;  -/
abbrev G_X16_text (D : va_G) (l : Launch) (as : List Value) (h0 hF : AH) (o : Out) : CT := (D, l, (yX16_text.cls, yX16_text, cX16_text, 3, (Option.some (.object "java/util/List")), 9, 230, []), as, h0, hF, o)
theorem hc_X16_text {D : va_G} {l : Launch} {as : List Value} {h0 hF : AH} {o : Out} : gC (G_X16_text D l as h0 hF o) = cX16_text := rfl
theorem ho_X16_text {D : va_G} {l : Launch} {as : List Value} {h0 hF : AH} {o : Out} : gO (G_X16_text D l as h0 hF o) = "BlockPapers$Parser" := rfl
theorem hp_X16_text {D : va_G} {l : Launch} {as : List Value} {h0 hF : AH} {o : Out} (pc : Nat) : ∀ z ∈ tableOf (gHd (G_X16_text D l as h0 hF o)), covers z pc = false := hpN
def fb_X16_text_l19 (rec : Nat → Nat → AH → Option ((Nat ⊕ Nat) × AH)) (x0 : Nat) (x1 : Nat) (h : AH) : Option ((Nat ⊕ Nat) × AH) :=
  bd (gtI h 14 x0 0) fun v1 =>
  bd (gtR h 14 x0 1) fun v2 =>
  bd (gtR h 0 v2 2) fun v3 =>
  gd (isC h 18 v3) <|
  bd2 (f_J5_length v3 h) fun r5 h6 =>
  if r5 ≤ v1 then (
    some (.inl x1, h6)
  ) else (
    gd (isC h6 14 x0) <|
    bdX (f_X16_take x0 (59 : Int32) (59 : Int32) h6) (fun zq21 h10 =>
      outX h10 zq21
    ) fun r9 h10 =>
    gd (isC h10 14 x0) <|
    bdX (f_X16_command x0 h10) (fun zq20 h14 =>
      outX h14 zq20
    ) fun r13 h14 =>
    gd (isC h14 16 x1) <|
    bd2 (f_J2_add x1 r13 h14) fun r17 h18 =>
    rec x0 x1 h18
  )
def f_X16_text_l19 : Nat → Nat → Nat → AH → Option ((Nat ⊕ Nat) × AH)
  | 0 => fun _ _ _ => none
  | n + 1 => fb_X16_text_l19 (f_X16_text_l19 n) 
theorem w_X16_text_l19 (D : va_G) (l : Launch) (hl : l.stackTraces = false) (as : List Value) (h0 : AH) {r : (Nat ⊕ Nat)} {hF : AH} : ∀ (n : Nat) (x0 : Nat) (x1 : Nat) (h : AH), f_X16_text_l19 n x0 x1 h = some (r, hF) → V (G_X16_text D l as h0 hF ((oX oR) r)) h 19 [(0, .ref x0), (1, .ref x1)] [] := by
  intro n; induction n with
  | zero => intro x0 x1 h e; exact absurd (show (none : Option ((Nat ⊕ Nat) × AH)) = some _ from e) (fun z => nomatch z)
  | succ n IH =>
    intro x0 x1 h e
    have e : fb_X16_text_l19 (f_X16_text_l19 n) x0 x1 h = some (r, hF) := e
    unfold fb_X16_text_l19 at e
    refine v_aload_n (pc' := 20) hc_X16_text dX16_text_19 rfl rfl 0 rfl ?_
    refine v_gfI (pc' := 23) hc_X16_text ho_X16_text KX16 0 (Nat.le_of_ble_eq_true rfl) q1968 (Or.inl rfl) dX16_text_20 rfl e (fun v1 _ e => ?_)
    refine v_aload_n (pc' := 24) hc_X16_text dX16_text_23 rfl rfl 0 rfl ?_
    refine v_gfR (pc' := 27) hc_X16_text ho_X16_text KX16 1 (Nat.le_of_ble_eq_true rfl) q1969 (Or.inl rfl) dX16_text_24 rfl e (fun v2 _ e => ?_)
    refine v_gnR (pc' := 30) hc_X16_text ho_X16_text KX1 2 (Nat.le_of_ble_eq_true rfl) q237 rfl dX16_text_27 rfl e (fun v3 _ e => ?_)
    obtain ⟨c4, e⟩ := gd_of e
    obtain ⟨r5, h6, e7, e⟩ := bd2_of e
    refine k_V (pc' := 33) (ci := 18) (n := 0) hc_X16_text ho_X16_text rfl c4 (w_J5_length D l hl v3 h e7) (wA_l q2037) q534 (wA_l q535) q82 q536 hy_273 ⟨Nat.le_of_ble_eq_true rfl, Nat.le_of_ble_eq_true rfl⟩ rfl rfl (Nat.le_of_ble_eq_true rfl) dX16_text_30 rfl (kS ?_) kN
    refine v_icmp_ge (pt := 59) (pf := 36) hc_X16_text dX16_text_33 rfl rfl e (fun _ e => ?_) (fun _ e => ?_)
    · refine v_aload_n (pc' := 60) hc_X16_text dX16_text_59 rfl rfl 1 rfl ?_
      obtain ⟨rfl, rfl⟩ := ret_of e
      exact v_aret hc_X16_text rfl (Or.inl ⟨_, rfl⟩) (Or.inr ⟨_, rfl⟩) dX16_text_60 rfl rfl
    · refine v_aload_n (pc' := 37) hc_X16_text dX16_text_36 rfl rfl 0 rfl ?_
      refine v_bipush (pc' := 39) (v := 59) hc_X16_text dX16_text_37 rfl rfl ?_
      refine v_bipush (pc' := 41) (v := 59) hc_X16_text dX16_text_39 rfl rfl ?_
      obtain ⟨c8, e⟩ := gd_of e
      rcases bdX_of e with ⟨r9, h10, e11, e⟩ | ⟨zq21, h10, e11, e⟩
      · refine k_V (pc' := 44) (ci := 14) (n := 2) hc_X16_text ho_X16_text rfl c8 (w_X16_take D l hl x0 (59 : Int32) (59 : Int32) h6 e11) (wA_l q2060) q2062 (wA_l qs22) q118 q2063 hy_312 ⟨Nat.le_of_ble_eq_true rfl, Nat.le_of_ble_eq_true rfl⟩ rfl rfl (Nat.le_of_ble_eq_true rfl) dX16_text_41 rfl (kS ?_) kN
        refine v_istore_n (pc' := 45) (lv' := [(2, .int r9), (0, .ref x0), (1, .ref x1)]) hc_X16_text dX16_text_44 rfl rfl (Nat.le_of_ble_eq_true rfl) rfl ?_
        refine v_aload_n (pc' := 46) hc_X16_text dX16_text_45 rfl rfl 2 rfl ?_
        refine v_aload_n (pc' := 47) hc_X16_text dX16_text_46 rfl rfl 1 rfl ?_
        obtain ⟨c12, e⟩ := gd_of e
        rcases bdX_of e with ⟨r13, h14, e15, e⟩ | ⟨zq20, h14, e15, e⟩
        · refine k_V (pc' := 50) (ci := 14) (n := 0) hc_X16_text ho_X16_text rfl c12 (w_X16_command D l hl x0 h10 e15) (wA_l q1981) q1983 (wA_l qs19) q118 q1984 hy_321 ⟨Nat.le_of_ble_eq_true rfl, Nat.le_of_ble_eq_true rfl⟩ rfl rfl (Nat.le_of_ble_eq_true rfl) dX16_text_47 rfl (kS ?_) kN
          obtain ⟨c16, e⟩ := gd_of e
          obtain ⟨r17, h18, e19, e⟩ := bd2_of e
          refine k_F (pc' := 55) (x := ⟨"java/util/List", "add", "(Ljava/lang/Object;)Z"⟩) (y := ⟨"java/util/ArrayList", "add", "(Ljava/lang/Object;)Z"⟩) (ci := 16) (n := 1) hc_X16_text ho_X16_text rfl c16 (w_J2_add D l hl x1 r13 h14 e19) (wA_l q2107) (by decide +kernel) q907 q909 q79 q911 hy_28 ⟨Nat.le_of_ble_eq_true rfl, Nat.le_of_ble_eq_true rfl⟩ rfl rfl (Nat.le_of_ble_eq_true rfl) dX16_text_50 rfl (kS ?_) kN
          refine v_pop (pc' := 56) hc_X16_text dX16_text_55 rfl rfl ?_
          refine v_goto (pt := 19) hc_X16_text dX16_text_56 rfl ?_
          refine v_pick [1, 2] rfl ?_
          exact IH x0 x1 h18 e
        · refine k_V (pc' := 50) (ci := 14) (n := 0) hc_X16_text ho_X16_text rfl c12 (w_X16_command D l hl x0 h10 e15) (wA_l q1981) q1983 (wA_l qs19) q118 q1984 hy_321 ⟨Nat.le_of_ble_eq_true rfl, Nat.le_of_ble_eq_true rfl⟩ rfl rfl (Nat.le_of_ble_eq_true rfl) dX16_text_47 rfl kM (kX ?_)
          exact v_outA (hp_X16_text _) rfl rfl e
      · refine k_V (pc' := 44) (ci := 14) (n := 2) hc_X16_text ho_X16_text rfl c8 (w_X16_take D l hl x0 (59 : Int32) (59 : Int32) h6 e11) (wA_l q2060) q2062 (wA_l qs22) q118 q2063 hy_312 ⟨Nat.le_of_ble_eq_true rfl, Nat.le_of_ble_eq_true rfl⟩ rfl rfl (Nat.le_of_ble_eq_true rfl) dX16_text_41 rfl kM (kX ?_)
        exact v_outA (hp_X16_text _) rfl rfl e
def f_X16_text (x0 : Nat) (h : AH) : Option ((Nat ⊕ Nat) × AH) :=
  bd2 (nwX h 16 3 fsJ2) fun a2 h1 =>
  bd2 (f_J2_init a2 h1) fun r3 h4 =>
  gd (isC h4 14 x0) <|
  bdX (f_X16_command x0 h4) (fun zq14 h8 =>
    outX h8 zq14
  ) fun r7 h8 =>
  gd (isC h8 16 a2) <|
  bd2 (f_J2_add a2 r7 h8) fun r11 h12 =>
  f_X16_text_l19 NN x0 a2 h12
theorem v_X16_text (D : va_G) (l : Launch) (hl : l.stackTraces = false) (as : List Value) (h0 : AH) {r : (Nat ⊕ Nat)} {hF : AH} (x0 : Nat) (h : AH) (e : f_X16_text x0 h = some (r, hF)) : V (G_X16_text D l as h0 hF ((oX oR) r)) h 0 [(0, .ref x0)] [] := by
  unfold f_X16_text at e
  refine v_newX (pc' := 3) hc_X16_text ho_X16_text KJ2 q1979 q136 q79 rfl dfJ2 dX16_text_0 rfl e (fun a2 h1 _ e => ?_)
  refine v_dup (pc' := 4) hc_X16_text dX16_text_3 rfl rfl ?_
  obtain ⟨r3, h4, e5, e⟩ := bd2_of e
  refine k_I (pc' := 7) (n := 0) hc_X16_text ho_X16_text (w_J2_init D l hl a2 h1 e5) (wA_l q1980) q138 q79 q139 rfl hy_2 ⟨Nat.le_of_ble_eq_true rfl, Nat.le_of_ble_eq_true rfl⟩ rfl rfl (Nat.le_of_ble_eq_true rfl) dX16_text_4 rfl (kU ?_) kN
  refine v_astore_n (pc' := 8) (lv' := [(1, .ref a2), (0, .ref x0)]) hc_X16_text dX16_text_7 rfl rfl (Nat.le_of_ble_eq_true rfl) rfl ?_
  refine v_aload_n (pc' := 9) hc_X16_text dX16_text_8 rfl rfl 0 rfl ?_
  refine v_aload_n (pc' := 10) hc_X16_text dX16_text_9 rfl rfl 1 rfl ?_
  obtain ⟨c6, e⟩ := gd_of e
  rcases bdX_of e with ⟨r7, h8, e9, e⟩ | ⟨zq14, h8, e9, e⟩
  · refine k_V (pc' := 13) (ci := 14) (n := 0) hc_X16_text ho_X16_text rfl c6 (w_X16_command D l hl x0 h4 e9) (wA_l q1981) q1983 (wA_l qs19) q118 q1984 hy_321 ⟨Nat.le_of_ble_eq_true rfl, Nat.le_of_ble_eq_true rfl⟩ rfl rfl (Nat.le_of_ble_eq_true rfl) dX16_text_10 rfl (kS ?_) kN
    obtain ⟨c10, e⟩ := gd_of e
    obtain ⟨r11, h12, e13, e⟩ := bd2_of e
    refine k_F (pc' := 18) (x := ⟨"java/util/List", "add", "(Ljava/lang/Object;)Z"⟩) (y := ⟨"java/util/ArrayList", "add", "(Ljava/lang/Object;)Z"⟩) (ci := 16) (n := 1) hc_X16_text ho_X16_text rfl c10 (w_J2_add D l hl a2 r7 h8 e13) (wA_l q2107) (by decide +kernel) q907 q909 q79 q911 hy_28 ⟨Nat.le_of_ble_eq_true rfl, Nat.le_of_ble_eq_true rfl⟩ rfl rfl (Nat.le_of_ble_eq_true rfl) dX16_text_13 rfl (kS ?_) kN
    refine v_pop (pc' := 19) hc_X16_text dX16_text_18 rfl rfl ?_
    refine v_pick [1, 0] rfl ?_
    exact w_X16_text_l19 D l hl as h0 NN x0 a2 h12 e
  · refine k_V (pc' := 13) (ci := 14) (n := 0) hc_X16_text ho_X16_text rfl c6 (w_X16_command D l hl x0 h4 e9) (wA_l q1981) q1983 (wA_l qs19) q118 q1984 hy_321 ⟨Nat.le_of_ble_eq_true rfl, Nat.le_of_ble_eq_true rfl⟩ rfl rfl (Nat.le_of_ble_eq_true rfl) dX16_text_10 rfl kM (kX ?_)
    exact v_outA (hp_X16_text _) rfl rfl e
theorem w_X16_text (D : va_G) (l : Launch) (hl : l.stackTraces = false) (x0 : Nat) (h : AH) {r : (Nat ⊕ Nat)} {hF : AH} (e : f_X16_text x0 h = some (r, hF)) : MetV D l yX16_text (Cond.code yX16_text cX16_text 3 (Option.some (.object "java/util/List"))) 9 230 [.ref x0] h hF ((oX oR) r) :=
  met_ofF (by decide +kernel) hl (Nat.le_of_ble_eq_true rfl) rfl (v_X16_text D l hl [.ref x0] h x0 h e)
/-! BlockPapers.taken()Ljava/util/List;  -/
abbrev G_X1_taken (D : va_G) (l : Launch) (as : List Value) (h0 hF : AH) (o : Out) : CT := (D, l, (yX1_taken.cls, yX1_taken, cX1_taken, 4, (Option.some (.object "java/util/List")), 10, 252, [(0, 12, 22, 365), (0, 12, 43, 0), (22, 33, 43, 0)]), as, h0, hF, o)
theorem hc_X1_taken {D : va_G} {l : Launch} {as : List Value} {h0 hF : AH} {o : Out} : gC (G_X1_taken D l as h0 hF o) = cX1_taken := rfl
theorem ho_X1_taken {D : va_G} {l : Launch} {as : List Value} {h0 hF : AH} {o : Out} : gO (G_X1_taken D l as h0 hF o) = "BlockPapers" := rfl
def f_X1_taken (x0 : Nat) (h : AH) : Option (Option Nat × AH) :=
  bd2 (nwX h 14 2 fsX16) fun a2 h1 =>
  bd2 (f_X16_init a2 x0 h1) fun r3 h4 =>
  gd (isC h4 14 a2) <|
  bdX (f_X16_text a2 h4) (fun zq15 h8 =>
    if isX h8 15 zq15 = true then (
      bd (gtI h8 15 zq15 6) fun v16 =>
      bd (stF h8 0 x0 4 (.int v16)) fun h17 =>
      bd (gtR h17 0 x0 2) fun v18 =>
      gd (isC h17 18 v18) <|
      bd2 (f_J5_setLength v18 (0 : Int32) h17) fun r20 h21 =>
      some (none, h21)
    ) else (
    none)
  ) fun r7 h8 =>
  bd (gtR h8 0 x0 2) fun v10 =>
  gd (isC h8 18 v10) <|
  bd2 (f_J5_setLength v10 (0 : Int32) h8) fun r12 h13 =>
  some ((some r7), h13)
theorem v_X1_taken (D : va_G) (l : Launch) (hl : l.stackTraces = false) (as : List Value) (h0 : AH) {r : Option Nat} {hF : AH} (x0 : Nat) (h : AH) (e : f_X1_taken x0 h = some (r, hF)) : V (G_X1_taken D l as h0 hF (oO r)) h 0 [(0, .ref x0)] [] := by
  unfold f_X1_taken at e
  refine v_newX (pc' := 3) hc_X1_taken ho_X1_taken KX16 q1962 q1963 q118 rfl dfX16 dX1_taken_0 rfl e (fun a2 h1 _ e => ?_)
  refine v_dup (pc' := 4) hc_X1_taken dX1_taken_3 rfl rfl ?_
  refine v_aload_n (pc' := 5) hc_X1_taken dX1_taken_4 rfl rfl 0 rfl ?_
  obtain ⟨r3, h4, e5, e⟩ := bd2_of e
  refine k_IN (pc' := 8) (x := ⟨"BlockPapers$Parser", "<init>", "(LBlockPapers;)V"⟩) (n := 1) hc_X1_taken ho_X1_taken (w_X16_init D l hl a2 x0 h1 e5) q1964 q1965 q118 rfl q1966 hy_303 ⟨Nat.le_of_ble_eq_true rfl, Nat.le_of_ble_eq_true rfl⟩ rfl rfl (Nat.le_of_ble_eq_true rfl) dX1_taken_5 rfl (kU ?_) kN
  obtain ⟨c6, e⟩ := gd_of e
  rcases bdX_of e with ⟨r7, h8, e9, e⟩ | ⟨zq15, h8, e9, e⟩
  · refine k_V (pc' := 11) (ci := 14) (n := 0) hc_X1_taken ho_X1_taken rfl c6 (w_X16_text D l hl a2 h4 e9) (wA_l q1975) q1976 (wA_l q1977) q118 q1978 hy_322 ⟨Nat.le_of_ble_eq_true rfl, Nat.le_of_ble_eq_true rfl⟩ rfl rfl (Nat.le_of_ble_eq_true rfl) dX1_taken_8 rfl (kS ?_) kN
    refine v_astore_n (pc' := 12) (lv' := [(1, .ref r7), (0, .ref x0)]) hc_X1_taken dX1_taken_11 rfl rfl (Nat.le_of_ble_eq_true rfl) rfl ?_
    refine v_aload_n (pc' := 13) hc_X1_taken dX1_taken_12 rfl rfl 1 rfl ?_
    refine v_gfR (pc' := 16) hc_X1_taken ho_X1_taken KX1 2 (Nat.le_of_ble_eq_true rfl) q238 (Or.inl rfl) dX1_taken_13 rfl e (fun v10 _ e => ?_)
    refine v_iconst (pc' := 17) (v := 0) hc_X1_taken dX1_taken_16 rfl rfl ?_
    obtain ⟨c11, e⟩ := gd_of e
    obtain ⟨r12, h13, e14, e⟩ := bd2_of e
    refine k_V (pc' := 20) (ci := 18) (n := 1) hc_X1_taken ho_X1_taken rfl c11 (w_J5_setLength D l hl v10 (0 : Int32) h8 e14) (wA_l q2108) q2109 (wA_l q2110) q82 q2111 hy_324 ⟨Nat.le_of_ble_eq_true rfl, Nat.le_of_ble_eq_true rfl⟩ rfl rfl (Nat.le_of_ble_eq_true rfl) dX1_taken_17 rfl (kU ?_) kN
    refine v_aload_n (pc' := 21) hc_X1_taken dX1_taken_20 rfl rfl 0 rfl ?_
    obtain ⟨rfl, rfl⟩ := ret_of e
    exact v_aret hc_X1_taken rfl (Or.inl ⟨_, rfl⟩) (Or.inr ⟨_, rfl⟩) dX1_taken_21 rfl rfl
  · refine k_V (pc' := 11) (ci := 14) (n := 0) hc_X1_taken ho_X1_taken rfl c6 (w_X16_text D l hl a2 h4 e9) (wA_l q1975) q1976 (wA_l q1977) q118 q1978 hy_322 ⟨Nat.le_of_ble_eq_true rfl, Nat.le_of_ble_eq_true rfl⟩ rfl rfl (Nat.le_of_ble_eq_true rfl) dX1_taken_8 rfl kM (kX ?_)
    rcases ite_cs e with ⟨c23, e⟩ | ⟨_, e⟩
    · refine v_catchH (ci := 15) (nm := "BlockPapers$FaultException") (pre := []) (x := (0, 12, 22, 365)) (suf := [(0, 12, 43, 0), (22, 33, 43, 0)]) ho_X1_taken c23 rfl rfl (by decide) (by decide) hpN q1961 q2043 ?_
      refine v_astore_n (pc' := 23) (lv' := [(1, .ref zq15), (0, .ref x0)]) hc_X1_taken dX1_taken_22 rfl rfl (Nat.le_of_ble_eq_true rfl) rfl ?_
      refine v_aload_n (pc' := 24) hc_X1_taken dX1_taken_23 rfl rfl 1 rfl ?_
      refine v_aload_n (pc' := 25) hc_X1_taken dX1_taken_24 rfl rfl 0 rfl ?_
      refine v_gnI (pc' := 28) hc_X1_taken ho_X1_taken KX17 6 (Nat.le_of_ble_eq_true rfl) q2055 rfl dX1_taken_25 rfl e (fun v16 _ e => ?_)
      refine v_pf (pc' := 31) hc_X1_taken ho_X1_taken KX1 4 (Nat.le_of_ble_eq_true rfl) q240 (Or.inl rfl) rfl dX1_taken_28 rfl rfl rfl e (fun h17 _ e => ?_)
      refine v_null (pc' := 32) hc_X1_taken dX1_taken_31 rfl ?_
      refine v_astore_nN (pc' := 33) (lv' := [(2, .null), (1, .ref zq15), (0, .ref x0)]) hc_X1_taken dX1_taken_32 rfl rfl (Nat.le_of_ble_eq_true rfl) rfl ?_
      refine v_aload_n (pc' := 34) hc_X1_taken dX1_taken_33 rfl rfl 2 rfl ?_
      refine v_gfR (pc' := 37) hc_X1_taken ho_X1_taken KX1 2 (Nat.le_of_ble_eq_true rfl) q238 (Or.inl rfl) dX1_taken_34 rfl e (fun v18 _ e => ?_)
      refine v_iconst (pc' := 38) (v := 0) hc_X1_taken dX1_taken_37 rfl rfl ?_
      obtain ⟨c19, e⟩ := gd_of e
      obtain ⟨r20, h21, e22, e⟩ := bd2_of e
      refine k_V (pc' := 41) (ci := 18) (n := 1) hc_X1_taken ho_X1_taken rfl c19 (w_J5_setLength D l hl v18 (0 : Int32) h17 e22) (wA_l q2108) q2109 (wA_l q2110) q82 q2111 hy_324 ⟨Nat.le_of_ble_eq_true rfl, Nat.le_of_ble_eq_true rfl⟩ rfl rfl (Nat.le_of_ble_eq_true rfl) dX1_taken_38 rfl (kU ?_) kN
      refine v_aload_nN (pc' := 42) hc_X1_taken dX1_taken_41 rfl rfl 0 rfl ?_
      obtain ⟨rfl, rfl⟩ := ret_of e
      exact v_aret hc_X1_taken rfl (Or.inl ⟨_, rfl⟩) (Or.inl rfl) dX1_taken_42 rfl rfl
    exact nomatch e
theorem w_X1_taken (D : va_G) (l : Launch) (hl : l.stackTraces = false) (x0 : Nat) (h : AH) {r : Option Nat} {hF : AH} (e : f_X1_taken x0 h = some (r, hF)) : MetV D l yX1_taken (Cond.codeWith yX1_taken cX1_taken 4 (Option.some (.object "java/util/List")) [(0, 12, 22, 365), (0, 12, 43, 0), (22, 33, 43, 0)]) 10 252 [.ref x0] h hF (oO r) :=
  met_ofHF (by decide +kernel) hl (Nat.le_of_ble_eq_true rfl) rfl (v_X1_taken D l hl [.ref x0] h x0 h e)
/-! BlockPapers$All.<init>(Ljava/util/List;)V {'nul': (1,)} -/
abbrev G_X6_init_n1 (D : va_G) (l : Launch) (as : List Value) (h0 hF : AH) (o : Out) : CT := (D, l, (yX6_init.cls, yX6_init, cX6_init, 2, (Option.none : Option FieldType), 1, 48, []), as, h0, hF, o)
theorem hc_X6_init_n1 {D : va_G} {l : Launch} {as : List Value} {h0 hF : AH} {o : Out} : gC (G_X6_init_n1 D l as h0 hF o) = cX6_init := rfl
theorem ho_X6_init_n1 {D : va_G} {l : Launch} {as : List Value} {h0 hF : AH} {o : Out} : gO (G_X6_init_n1 D l as h0 hF o) = "BlockPapers$All" := rfl
theorem hp_X6_init_n1 {D : va_G} {l : Launch} {as : List Value} {h0 hF : AH} {o : Out} (pc : Nat) : ∀ z ∈ tableOf (gHd (G_X6_init_n1 D l as h0 hF o)), covers z pc = false := hpN
def f_X6_init_n1 (x0 : Nat) (h : AH) : Option (Unit × AH) :=
  bd (stF h 5 x0 0 .null) fun h1 =>
  some ((), h1)
theorem v_X6_init_n1 (D : va_G) (l : Launch) (hl : l.stackTraces = false) (as : List Value) (h0 : AH) {r : Unit} {hF : AH} (x0 : Nat) (h : AH) (e : f_X6_init_n1 x0 h = some (r, hF)) : V (G_X6_init_n1 D l as h0 hF (oV r)) h 0 [(0, .ref x0), (1, .null)] [] := by
  unfold f_X6_init_n1 at e
  refine v_aload_n (pc' := 1) hc_X6_init_n1 dX6_init_0 rfl rfl 0 rfl ?_
  refine v_oinit (pc' := 4) hc_X6_init_n1 ho_X6_init_n1 q2165 q127 q128 ⟨Nat.le_of_ble_eq_true rfl, Nat.le_of_ble_eq_true rfl⟩ dX6_init_1 rfl ?_
  refine v_aload_n (pc' := 5) hc_X6_init_n1 dX6_init_4 rfl rfl 0 rfl ?_
  refine v_aload_nN (pc' := 6) hc_X6_init_n1 dX6_init_5 rfl rfl 1 rfl ?_
  refine v_pfF (pc' := 9) hc_X6_init_n1 ho_X6_init_n1 rfl KX6 0 (Nat.le_of_ble_eq_true rfl) q2166 rfl rfl rfl dX6_init_6 rfl rfl rfl e (fun h1 _ e => ?_)
  obtain ⟨rfl, rfl⟩ := ret_of e
  exact v_ret hc_X6_init_n1 rfl dX6_init_9 rfl rfl
theorem w_X6_init_n1 (D : va_G) (l : Launch) (hl : l.stackTraces = false) (x0 : Nat) (h : AH) {r : Unit} {hF : AH} (e : f_X6_init_n1 x0 h = some (r, hF)) : MetV D l yX6_init (Cond.code yX6_init cX6_init 2 (Option.none : Option FieldType)) 1 48 [.ref x0, .null] h hF (oV r) :=
  met_ofF (by decide +kernel) hl (Nat.le_of_ble_eq_true rfl) rfl (v_X6_init_n1 D l hl [.ref x0, .null] h x0 h e)
/-! BlockPapers$All.<init>(Ljava/util/List;)V  -/
abbrev G_X6_init (D : va_G) (l : Launch) (as : List Value) (h0 hF : AH) (o : Out) : CT := (D, l, (yX6_init.cls, yX6_init, cX6_init, 2, (Option.none : Option FieldType), 1, 48, []), as, h0, hF, o)
theorem hc_X6_init {D : va_G} {l : Launch} {as : List Value} {h0 hF : AH} {o : Out} : gC (G_X6_init D l as h0 hF o) = cX6_init := rfl
theorem ho_X6_init {D : va_G} {l : Launch} {as : List Value} {h0 hF : AH} {o : Out} : gO (G_X6_init D l as h0 hF o) = "BlockPapers$All" := rfl
theorem hp_X6_init {D : va_G} {l : Launch} {as : List Value} {h0 hF : AH} {o : Out} (pc : Nat) : ∀ z ∈ tableOf (gHd (G_X6_init D l as h0 hF o)), covers z pc = false := hpN
def f_X6_init (x0 : Nat) (x1 : Nat) (h : AH) : Option (Unit × AH) :=
  bd (stF h 5 x0 0 (.ref x1)) fun h1 =>
  some ((), h1)
theorem v_X6_init (D : va_G) (l : Launch) (hl : l.stackTraces = false) (as : List Value) (h0 : AH) {r : Unit} {hF : AH} (x0 : Nat) (x1 : Nat) (h : AH) (e : f_X6_init x0 x1 h = some (r, hF)) : V (G_X6_init D l as h0 hF (oV r)) h 0 [(0, .ref x0), (1, .ref x1)] [] := by
  unfold f_X6_init at e
  refine v_aload_n (pc' := 1) hc_X6_init dX6_init_0 rfl rfl 0 rfl ?_
  refine v_oinit (pc' := 4) hc_X6_init ho_X6_init q2165 q127 q128 ⟨Nat.le_of_ble_eq_true rfl, Nat.le_of_ble_eq_true rfl⟩ dX6_init_1 rfl ?_
  refine v_aload_n (pc' := 5) hc_X6_init dX6_init_4 rfl rfl 0 rfl ?_
  refine v_aload_n (pc' := 6) hc_X6_init dX6_init_5 rfl rfl 1 rfl ?_
  refine v_pfF (pc' := 9) hc_X6_init ho_X6_init rfl KX6 0 (Nat.le_of_ble_eq_true rfl) q2166 rfl rfl rfl dX6_init_6 rfl rfl rfl e (fun h1 _ e => ?_)
  obtain ⟨rfl, rfl⟩ := ret_of e
  exact v_ret hc_X6_init rfl dX6_init_9 rfl rfl
theorem w_X6_init (D : va_G) (l : Launch) (hl : l.stackTraces = false) (x0 : Nat) (x1 : Nat) (h : AH) {r : Unit} {hF : AH} (e : f_X6_init x0 x1 h = some (r, hF)) : MetV D l yX6_init (Cond.code yX6_init cX6_init 2 (Option.none : Option FieldType)) 1 48 [.ref x0, .ref x1] h hF (oV r) :=
  met_ofF (by decide +kernel) hl (Nat.le_of_ble_eq_true rfl) rfl (v_X6_init D l hl [.ref x0, .ref x1] h x0 x1 h e)
/-! BlockPapers.read()I  -/
abbrev G_X1_read (D : va_G) (l : Launch) (as : List Value) (h0 hF : AH) (o : Out) : CT := (D, l, (yX1_read.cls, yX1_read, cX1_read, 2, (Option.some .int), 14, 344, []), as, h0, hF, o)
theorem hc_X1_read {D : va_G} {l : Launch} {as : List Value} {h0 hF : AH} {o : Out} : gC (G_X1_read D l as h0 hF o) = cX1_read := rfl
theorem ho_X1_read {D : va_G} {l : Launch} {as : List Value} {h0 hF : AH} {o : Out} : gO (G_X1_read D l as h0 hF o) = "BlockPapers" := rfl
theorem hp_X1_read {D : va_G} {l : Launch} {as : List Value} {h0 hF : AH} {o : Out} (pc : Nat) : ∀ z ∈ tableOf (gHd (G_X1_read D l as h0 hF o)), covers z pc = false := hpN
def f_X1_read (x0 : Nat) (h : AH) : Option ((Int32 ⊕ Nat) × AH) :=
  gd (isC h 0 x0) <|
  bd2 (f_X1_taken x0 h) fun r2 h3 =>
  optR r2 (
    bdX (f_X1_require (0 : Int32) h3) (fun zq19 h7 =>
      outX h7 zq19
    ) fun r6 h7 =>
    bd2 (nwX h7 5 1 fsX6) fun a10 h9 =>
    bd2 (f_X6_init_n1 a10 h9) fun r11 h12 =>
    gd (isC h12 0 x0) <|
    bdX (f_X1_change x0 a10 h12) (fun zq18 h16 =>
      outX h16 zq18
    ) fun r15 h16 =>
    some (.inl r15, h16)
  ) fun v5 =>
  bdX (f_X1_require (1 : Int32) h3) (fun zq33 h21 =>
    outX h21 zq33
  ) fun r20 h21 =>
  bd2 (nwX h21 5 1 fsX6) fun a24 h23 =>
  bd2 (f_X6_init a24 v5 h23) fun r25 h26 =>
  gd (isC h26 0 x0) <|
  bdX (f_X1_change x0 a24 h26) (fun zq32 h30 =>
    outX h30 zq32
  ) fun r29 h30 =>
  some (.inl r29, h30)
theorem v_X1_read (D : va_G) (l : Launch) (hl : l.stackTraces = false) (as : List Value) (h0 : AH) {r : (Int32 ⊕ Nat)} {hF : AH} (x0 : Nat) (h : AH) (e : f_X1_read x0 h = some (r, hF)) : V (G_X1_read D l as h0 hF ((oX oI) r)) h 0 [(0, .ref x0)] [] := by
  unfold f_X1_read at e
  refine v_aload_n (pc' := 1) hc_X1_read dX1_read_0 rfl rfl 0 rfl ?_
  obtain ⟨c1, e⟩ := gd_of e
  obtain ⟨r2, h3, e4, e⟩ := bd2_of e
  replace e := optR_of e
  rcases e with ⟨z, e⟩ | ⟨v5, z, e⟩
  · subst z
    refine k_VX (pc' := 4) (x := ⟨"BlockPapers", "taken", "()Ljava/util/List;"⟩) (ci := 0) (n := 0) hc_X1_read ho_X1_read rfl c1 (w_X1_taken D l hl x0 h e4) (wA_l q1957) q1959 qs18 q75 q1960 hy_325 ⟨Nat.le_of_ble_eq_true rfl, Nat.le_of_ble_eq_true rfl⟩ rfl rfl (Nat.le_of_ble_eq_true rfl) dX1_read_1 rfl (kS ?_) kN
    refine v_astore_nN (pc' := 5) (lv' := [(1, .null), (0, .ref x0)]) hc_X1_read dX1_read_4 rfl rfl (Nat.le_of_ble_eq_true rfl) rfl ?_
    refine v_aload_nN (pc' := 6) hc_X1_read dX1_read_5 rfl rfl 0 rfl ?_
    refine v_ifnullN (x := 0) (pt := 13) hc_X1_read dX1_read_6 rfl ?_
    refine v_iconst (pc' := 14) (v := 0) hc_X1_read dX1_read_13 rfl rfl ?_
    rcases bdX_of e with ⟨r6, h7, e8, e⟩ | ⟨zq19, h7, e8, e⟩
    · refine k_S (pc' := 17) (n := 1) hc_X1_read ho_X1_read (w_X1_require D l hl (0 : Int32) h3 e8) (wA_l q269) q270 q75 q271 hy_40 ⟨Nat.le_of_ble_eq_true rfl, Nat.le_of_ble_eq_true rfl⟩ rfl rfl (Nat.le_of_ble_eq_true rfl) dX1_read_14 rfl (kU ?_) kN
      refine v_aload_n (pc' := 18) hc_X1_read dX1_read_17 rfl rfl 1 rfl ?_
      refine v_newX (pc' := 21) hc_X1_read ho_X1_read KX6 q2160 q2161 q103 rfl dfX6 dX1_read_18 rfl e (fun a10 h9 _ e => ?_)
      refine v_dup (pc' := 22) hc_X1_read dX1_read_21 rfl rfl ?_
      refine v_aload_nN (pc' := 23) hc_X1_read dX1_read_22 rfl rfl 0 rfl ?_
      obtain ⟨r11, h12, e13, e⟩ := bd2_of e
      refine k_I (pc' := 26) (n := 1) hc_X1_read ho_X1_read (w_X6_init_n1 D l hl a10 h9 e13) (wA_l q2162) q2163 q103 q2164 rfl hy_326 ⟨Nat.le_of_ble_eq_true rfl, Nat.le_of_ble_eq_true rfl⟩ rfl rfl (Nat.le_of_ble_eq_true rfl) dX1_read_23 rfl (kU ?_) kN
      obtain ⟨c14, e⟩ := gd_of e
      rcases bdX_of e with ⟨r15, h16, e17, e⟩ | ⟨zq18, h16, e17, e⟩
      · refine k_VX (pc' := 29) (x := ⟨"BlockPapers", "change", "(LBlockPapers$Deed;)I"⟩) (ci := 0) (n := 1) hc_X1_read ho_X1_read rfl c14 (w_X1_change D l hl x0 a10 h12 e17) (wA_l q952) q954 qs8 q75 q955 hy_114 ⟨Nat.le_of_ble_eq_true rfl, Nat.le_of_ble_eq_true rfl⟩ rfl rfl (Nat.le_of_ble_eq_true rfl) dX1_read_26 rfl (kS ?_) kN
        obtain ⟨rfl, rfl⟩ := ret_of e
        exact v_iret hc_X1_read rfl dX1_read_29 rfl rfl
      · refine k_VX (pc' := 29) (x := ⟨"BlockPapers", "change", "(LBlockPapers$Deed;)I"⟩) (ci := 0) (n := 1) hc_X1_read ho_X1_read rfl c14 (w_X1_change D l hl x0 a10 h12 e17) (wA_l q952) q954 qs8 q75 q955 hy_114 ⟨Nat.le_of_ble_eq_true rfl, Nat.le_of_ble_eq_true rfl⟩ rfl rfl (Nat.le_of_ble_eq_true rfl) dX1_read_26 rfl kM (kX ?_)
        exact v_outA (hp_X1_read _) rfl rfl e
    · refine k_S (pc' := 17) (n := 1) hc_X1_read ho_X1_read (w_X1_require D l hl (0 : Int32) h3 e8) (wA_l q269) q270 q75 q271 hy_40 ⟨Nat.le_of_ble_eq_true rfl, Nat.le_of_ble_eq_true rfl⟩ rfl rfl (Nat.le_of_ble_eq_true rfl) dX1_read_14 rfl kM (kX ?_)
      exact v_outA (hp_X1_read _) rfl rfl e
  · subst z
    refine k_VX (pc' := 4) (x := ⟨"BlockPapers", "taken", "()Ljava/util/List;"⟩) (ci := 0) (n := 0) hc_X1_read ho_X1_read rfl c1 (w_X1_taken D l hl x0 h e4) (wA_l q1957) q1959 qs18 q75 q1960 hy_325 ⟨Nat.le_of_ble_eq_true rfl, Nat.le_of_ble_eq_true rfl⟩ rfl rfl (Nat.le_of_ble_eq_true rfl) dX1_read_1 rfl (kS ?_) kN
    refine v_astore_n (pc' := 5) (lv' := [(1, .ref v5), (0, .ref x0)]) hc_X1_read dX1_read_4 rfl rfl (Nat.le_of_ble_eq_true rfl) rfl ?_
    refine v_aload_n (pc' := 6) hc_X1_read dX1_read_5 rfl rfl 0 rfl ?_
    refine v_ifnull (pc' := 9) hc_X1_read dX1_read_6 rfl ?_
    refine v_iconst (pc' := 10) (v := 1) hc_X1_read dX1_read_9 rfl rfl ?_
    refine v_goto (pt := 14) hc_X1_read dX1_read_10 rfl ?_
    rcases bdX_of e with ⟨r20, h21, e22, e⟩ | ⟨zq33, h21, e22, e⟩
    · refine k_S (pc' := 17) (n := 1) hc_X1_read ho_X1_read (w_X1_require D l hl (1 : Int32) h3 e22) (wA_l q269) q270 q75 q271 hy_40 ⟨Nat.le_of_ble_eq_true rfl, Nat.le_of_ble_eq_true rfl⟩ rfl rfl (Nat.le_of_ble_eq_true rfl) dX1_read_14 rfl (kU ?_) kN
      refine v_aload_n (pc' := 18) hc_X1_read dX1_read_17 rfl rfl 1 rfl ?_
      refine v_newX (pc' := 21) hc_X1_read ho_X1_read KX6 q2160 q2161 q103 rfl dfX6 dX1_read_18 rfl e (fun a24 h23 _ e => ?_)
      refine v_dup (pc' := 22) hc_X1_read dX1_read_21 rfl rfl ?_
      refine v_aload_n (pc' := 23) hc_X1_read dX1_read_22 rfl rfl 0 rfl ?_
      obtain ⟨r25, h26, e27, e⟩ := bd2_of e
      refine k_I (pc' := 26) (n := 1) hc_X1_read ho_X1_read (w_X6_init D l hl a24 v5 h23 e27) (wA_l q2162) q2163 q103 q2164 rfl hy_326 ⟨Nat.le_of_ble_eq_true rfl, Nat.le_of_ble_eq_true rfl⟩ rfl rfl (Nat.le_of_ble_eq_true rfl) dX1_read_23 rfl (kU ?_) kN
      obtain ⟨c28, e⟩ := gd_of e
      rcases bdX_of e with ⟨r29, h30, e31, e⟩ | ⟨zq32, h30, e31, e⟩
      · refine k_VX (pc' := 29) (x := ⟨"BlockPapers", "change", "(LBlockPapers$Deed;)I"⟩) (ci := 0) (n := 1) hc_X1_read ho_X1_read rfl c28 (w_X1_change D l hl x0 a24 h26 e31) (wA_l q952) q954 qs8 q75 q955 hy_114 ⟨Nat.le_of_ble_eq_true rfl, Nat.le_of_ble_eq_true rfl⟩ rfl rfl (Nat.le_of_ble_eq_true rfl) dX1_read_26 rfl (kS ?_) kN
        obtain ⟨rfl, rfl⟩ := ret_of e
        exact v_iret hc_X1_read rfl dX1_read_29 rfl rfl
      · refine k_VX (pc' := 29) (x := ⟨"BlockPapers", "change", "(LBlockPapers$Deed;)I"⟩) (ci := 0) (n := 1) hc_X1_read ho_X1_read rfl c28 (w_X1_change D l hl x0 a24 h26 e31) (wA_l q952) q954 qs8 q75 q955 hy_114 ⟨Nat.le_of_ble_eq_true rfl, Nat.le_of_ble_eq_true rfl⟩ rfl rfl (Nat.le_of_ble_eq_true rfl) dX1_read_26 rfl kM (kX ?_)
        exact v_outA (hp_X1_read _) rfl rfl e
    · refine k_S (pc' := 17) (n := 1) hc_X1_read ho_X1_read (w_X1_require D l hl (1 : Int32) h3 e22) (wA_l q269) q270 q75 q271 hy_40 ⟨Nat.le_of_ble_eq_true rfl, Nat.le_of_ble_eq_true rfl⟩ rfl rfl (Nat.le_of_ble_eq_true rfl) dX1_read_14 rfl kM (kX ?_)
      exact v_outA (hp_X1_read _) rfl rfl e
theorem w_X1_read (D : va_G) (l : Launch) (hl : l.stackTraces = false) (x0 : Nat) (h : AH) {r : (Int32 ⊕ Nat)} {hF : AH} (e : f_X1_read x0 h = some (r, hF)) : MetV D l yX1_read (Cond.code yX1_read cX1_read 2 (Option.some .int)) 14 344 [.ref x0] h hF ((oX oI) r) :=
  met_ofF (by decide +kernel) hl (Nat.le_of_ble_eq_true rfl) rfl (v_X1_read D l hl [.ref x0] h x0 h e)
/-! BlockPapers.faultPosition()I  -/
abbrev G_X1_faultPosition (D : va_G) (l : Launch) (as : List Value) (h0 hF : AH) (o : Out) : CT := (D, l, (yX1_faultPosition.cls, yX1_faultPosition, cX1_faultPosition, 1, (Option.some .int), 7, 109, []), as, h0, hF, o)
theorem hc_X1_faultPosition {D : va_G} {l : Launch} {as : List Value} {h0 hF : AH} {o : Out} : gC (G_X1_faultPosition D l as h0 hF o) = cX1_faultPosition := rfl
theorem ho_X1_faultPosition {D : va_G} {l : Launch} {as : List Value} {h0 hF : AH} {o : Out} : gO (G_X1_faultPosition D l as h0 hF o) = "BlockPapers" := rfl
theorem hp_X1_faultPosition {D : va_G} {l : Launch} {as : List Value} {h0 hF : AH} {o : Out} (pc : Nat) : ∀ z ∈ tableOf (gHd (G_X1_faultPosition D l as h0 hF o)), covers z pc = false := hpN
def f_X1_faultPosition (x0 : Nat) (h : AH) : Option ((Int32 ⊕ Nat) × AH) :=
  bd (gtI h 0 x0 4) fun v1 =>
  if v1 = (-1 : Int32) then (
    bdX (f_X1_requireElement (0 : Int32) h) (fun zq6 h3 =>
      outX h3 zq6
    ) fun r2 h3 =>
    bd (gtI h3 0 x0 4) fun v5 =>
    some (.inl v5, h3)
  ) else (
    bdX (f_X1_requireElement (1 : Int32) h) (fun zq11 h8 =>
      outX h8 zq11
    ) fun r7 h8 =>
    bd (gtI h8 0 x0 4) fun v10 =>
    some (.inl v10, h8)
  )
theorem v_X1_faultPosition (D : va_G) (l : Launch) (hl : l.stackTraces = false) (as : List Value) (h0 : AH) {r : (Int32 ⊕ Nat)} {hF : AH} (x0 : Nat) (h : AH) (e : f_X1_faultPosition x0 h = some (r, hF)) : V (G_X1_faultPosition D l as h0 hF ((oX oI) r)) h 0 [(0, .ref x0)] [] := by
  unfold f_X1_faultPosition at e
  refine v_aload_n (pc' := 1) hc_X1_faultPosition dX1_faultPosition_0 rfl rfl 0 rfl ?_
  refine v_gfI (pc' := 4) hc_X1_faultPosition ho_X1_faultPosition KX1 4 (Nat.le_of_ble_eq_true rfl) q240 (Or.inl rfl) dX1_faultPosition_1 rfl e (fun v1 _ e => ?_)
  refine v_iconst (pc' := 5) (v := (-1)) hc_X1_faultPosition dX1_faultPosition_4 rfl rfl ?_
  refine v_icmp_eq (pt := 12) (pf := 8) hc_X1_faultPosition dX1_faultPosition_5 rfl rfl e (fun _ e => ?_) (fun _ e => ?_)
  · refine v_iconst (pc' := 13) (v := 0) hc_X1_faultPosition dX1_faultPosition_12 rfl rfl ?_
    rcases bdX_of e with ⟨r2, h3, e4, e⟩ | ⟨zq6, h3, e4, e⟩
    · refine k_S (pc' := 16) (n := 1) hc_X1_faultPosition ho_X1_faultPosition (w_X1_requireElement D l hl (0 : Int32) h e4) (wA_l q1657) q438 q75 q439 hy_159 ⟨Nat.le_of_ble_eq_true rfl, Nat.le_of_ble_eq_true rfl⟩ rfl rfl (Nat.le_of_ble_eq_true rfl) dX1_faultPosition_13 rfl (kU ?_) kN
      refine v_aload_n (pc' := 17) hc_X1_faultPosition dX1_faultPosition_16 rfl rfl 0 rfl ?_
      refine v_gfI (pc' := 20) hc_X1_faultPosition ho_X1_faultPosition KX1 4 (Nat.le_of_ble_eq_true rfl) q240 (Or.inl rfl) dX1_faultPosition_17 rfl e (fun v5 _ e => ?_)
      obtain ⟨rfl, rfl⟩ := ret_of e
      exact v_iret hc_X1_faultPosition rfl dX1_faultPosition_20 rfl rfl
    · refine k_S (pc' := 16) (n := 1) hc_X1_faultPosition ho_X1_faultPosition (w_X1_requireElement D l hl (0 : Int32) h e4) (wA_l q1657) q438 q75 q439 hy_159 ⟨Nat.le_of_ble_eq_true rfl, Nat.le_of_ble_eq_true rfl⟩ rfl rfl (Nat.le_of_ble_eq_true rfl) dX1_faultPosition_13 rfl kM (kX ?_)
      exact v_outA (hp_X1_faultPosition _) rfl rfl e
  · refine v_iconst (pc' := 9) (v := 1) hc_X1_faultPosition dX1_faultPosition_8 rfl rfl ?_
    refine v_goto (pt := 13) hc_X1_faultPosition dX1_faultPosition_9 rfl ?_
    rcases bdX_of e with ⟨r7, h8, e9, e⟩ | ⟨zq11, h8, e9, e⟩
    · refine k_S (pc' := 16) (n := 1) hc_X1_faultPosition ho_X1_faultPosition (w_X1_requireElement D l hl (1 : Int32) h e9) (wA_l q1657) q438 q75 q439 hy_159 ⟨Nat.le_of_ble_eq_true rfl, Nat.le_of_ble_eq_true rfl⟩ rfl rfl (Nat.le_of_ble_eq_true rfl) dX1_faultPosition_13 rfl (kU ?_) kN
      refine v_aload_n (pc' := 17) hc_X1_faultPosition dX1_faultPosition_16 rfl rfl 0 rfl ?_
      refine v_gfI (pc' := 20) hc_X1_faultPosition ho_X1_faultPosition KX1 4 (Nat.le_of_ble_eq_true rfl) q240 (Or.inl rfl) dX1_faultPosition_17 rfl e (fun v10 _ e => ?_)
      obtain ⟨rfl, rfl⟩ := ret_of e
      exact v_iret hc_X1_faultPosition rfl dX1_faultPosition_20 rfl rfl
    · refine k_S (pc' := 16) (n := 1) hc_X1_faultPosition ho_X1_faultPosition (w_X1_requireElement D l hl (1 : Int32) h e9) (wA_l q1657) q438 q75 q439 hy_159 ⟨Nat.le_of_ble_eq_true rfl, Nat.le_of_ble_eq_true rfl⟩ rfl rfl (Nat.le_of_ble_eq_true rfl) dX1_faultPosition_13 rfl kM (kX ?_)
      exact v_outA (hp_X1_faultPosition _) rfl rfl e
theorem w_X1_faultPosition (D : va_G) (l : Launch) (hl : l.stackTraces = false) (x0 : Nat) (h : AH) {r : (Int32 ⊕ Nat)} {hF : AH} (e : f_X1_faultPosition x0 h = some (r, hF)) : MetV D l yX1_faultPosition (Cond.code yX1_faultPosition cX1_faultPosition 1 (Option.some .int)) 7 109 [.ref x0] h hF ((oX oI) r) :=
  met_ofF (by decide +kernel) hl (Nat.le_of_ble_eq_true rfl) rfl (v_X1_faultPosition D l hl [.ref x0] h x0 h e)
/-! BlockPapers$Failure.behind(I)LBlockPapers$Failure; {'lv': 2} -/
abbrev G_X7_behind_2 (D : va_G) (l : Launch) (as : List Value) (h0 hF : AH) (o : Out) : CT := (D, l, (yX7_behind.cls, yX7_behind, cX7_behind, 4, (Option.some (.object "BlockPapers$Failure")), 2, 68, []), as, h0, hF, o)
theorem hc_X7_behind_2 {D : va_G} {l : Launch} {as : List Value} {h0 hF : AH} {o : Out} : gC (G_X7_behind_2 D l as h0 hF o) = cX7_behind := rfl
theorem ho_X7_behind_2 {D : va_G} {l : Launch} {as : List Value} {h0 hF : AH} {o : Out} : gO (G_X7_behind_2 D l as h0 hF o) = "BlockPapers$Failure" := rfl
theorem hp_X7_behind_2 {D : va_G} {l : Launch} {as : List Value} {h0 hF : AH} {o : Out} (pc : Nat) : ∀ z ∈ tableOf (gHd (G_X7_behind_2 D l as h0 hF o)), covers z pc = false := hpN
def f_X7_behind_2 (x0 : Nat) (x1 : Int32) (h : AH) : Option (Option Nat × AH) :=
  if x1 = 0 then (
    some ((some x0), h)
  ) else (
    gd (isC h 6 x0) <|
    bd2 (f_J9_getCause x0 h) fun r2 h3 =>
    optR r2 (
      some (none, h3)
    ) fun v5 =>
    if isC h3 6 v5 = true then (
      gd (isC h3 6 v5) <|
      none
    ) else (
    if isC h3 21 v5 = true then (
      some (none, h3)
    ) else (
    if isC h3 22 v5 = true then (
      some (none, h3)
    ) else (
    none)))
  )
theorem v_X7_behind_2 (D : va_G) (l : Launch) (hl : l.stackTraces = false) (as : List Value) (h0 : AH) {r : Option Nat} {hF : AH} (x0 : Nat) (x1 : Int32) (h : AH) (e : f_X7_behind_2 x0 x1 h = some (r, hF)) : V (G_X7_behind_2 D l as h0 hF (oO r)) h 0 [(0, .ref x0), (1, .int x1)] [] := by
  unfold f_X7_behind_2 at e
  refine v_iload_n (pc' := 1) hc_X7_behind_2 dX7_behind_0 rfl rfl 1 rfl ?_
  refine v_if_ne (pt := 6) (pf := 4) hc_X7_behind_2 dX7_behind_1 rfl rfl e (fun _ e => ?_) (fun _ e => ?_)
  · refine v_aload_n (pc' := 5) hc_X7_behind_2 dX7_behind_4 rfl rfl 0 rfl ?_
    obtain ⟨rfl, rfl⟩ := ret_of e
    exact v_aret hc_X7_behind_2 rfl (Or.inl ⟨_, rfl⟩) (Or.inr ⟨_, rfl⟩) dX7_behind_5 rfl rfl
  · refine v_aload_n (pc' := 7) hc_X7_behind_2 dX7_behind_6 rfl rfl 0 rfl ?_
    obtain ⟨c1, e⟩ := gd_of e
    obtain ⟨r2, h3, e4, e⟩ := bd2_of e
    replace e := optR_of e
    rcases e with ⟨z, e⟩ | ⟨v5, z, e⟩
    · subst z
      refine k_UY (pc' := 10) (x := ⟨"BlockPapers$Failure", "getCause", "()Ljava/lang/Throwable;"⟩) (y := ⟨"java/lang/Throwable", "getCause", "()Ljava/lang/Throwable;"⟩) (owner := "java/lang/Throwable") (ci := 6) (n := 0) hc_X7_behind_2 ho_X7_behind_2 rfl c1 (w_J9_getCause D l hl x0 h e4) (wA_l q2188) (wA_l q2189) (Or.inl q2190) q2191 q2192 q88 q2193 hy_339 ⟨Nat.le_of_ble_eq_true rfl, Nat.le_of_ble_eq_true rfl⟩ rfl rfl (Nat.le_of_ble_eq_true rfl) dX7_behind_7 rfl (kS ?_) kN
      refine v_astore_nN (pc' := 11) (lv' := [(3, .null), (0, .ref x0), (1, .int x1)]) hc_X7_behind_2 dX7_behind_10 rfl rfl (Nat.le_of_ble_eq_true rfl) rfl ?_
      refine v_aload_nN (pc' := 12) hc_X7_behind_2 dX7_behind_11 rfl rfl 0 rfl ?_
      refine v_instN (pc' := 15) hc_X7_behind_2 dX7_behind_12 rfl ?_
      refine v_if_eqT (pt := 33) hc_X7_behind_2 dX7_behind_15 rfl (by decide) ?_
      refine v_null (pc' := 34) hc_X7_behind_2 dX7_behind_33 rfl ?_
      obtain ⟨rfl, rfl⟩ := ret_of e
      exact v_aret hc_X7_behind_2 rfl (Or.inl ⟨_, rfl⟩) (Or.inl rfl) dX7_behind_34 rfl rfl
    · subst z
      refine k_UY (pc' := 10) (x := ⟨"BlockPapers$Failure", "getCause", "()Ljava/lang/Throwable;"⟩) (y := ⟨"java/lang/Throwable", "getCause", "()Ljava/lang/Throwable;"⟩) (owner := "java/lang/Throwable") (ci := 6) (n := 0) hc_X7_behind_2 ho_X7_behind_2 rfl c1 (w_J9_getCause D l hl x0 h e4) (wA_l q2188) (wA_l q2189) (Or.inl q2190) q2191 q2192 q88 q2193 hy_339 ⟨Nat.le_of_ble_eq_true rfl, Nat.le_of_ble_eq_true rfl⟩ rfl rfl (Nat.le_of_ble_eq_true rfl) dX7_behind_7 rfl (kS ?_) kN
      refine v_astore_n (pc' := 11) (lv' := [(3, .ref v5), (0, .ref x0), (1, .int x1)]) hc_X7_behind_2 dX7_behind_10 rfl rfl (Nat.le_of_ble_eq_true rfl) rfl ?_
      refine v_aload_n (pc' := 12) hc_X7_behind_2 dX7_behind_11 rfl rfl 0 rfl ?_
      rcases ite_cs e with ⟨c7, e⟩ | ⟨_, e⟩
      · refine v_inst (pc' := 15) (ci := 6) hc_X7_behind_2 ho_X7_behind_2 rfl q2194 (Or.inl rfl) dX7_behind_12 rfl c7 ?_
        refine v_if_eqF (pt := 33) (pf := 18) hc_X7_behind_2 dX7_behind_15 rfl rfl (by decide) ?_
        refine v_aload_n (pc' := 19) hc_X7_behind_2 dX7_behind_18 rfl rfl 0 rfl ?_
        obtain ⟨c6, e⟩ := gd_of e
        refine v_cast (pc' := 22) (ci := 6) hc_X7_behind_2 ho_X7_behind_2 rfl q2194 (Or.inl rfl) dX7_behind_19 rfl c6 ?_
        refine v_astore_n (pc' := 23) (lv' := [(2, .ref v5), (3, .ref v5), (0, .ref x0), (1, .int x1)]) hc_X7_behind_2 dX7_behind_22 rfl rfl (Nat.le_of_ble_eq_true rfl) rfl ?_
        refine v_aload_n (pc' := 24) hc_X7_behind_2 dX7_behind_23 rfl rfl 0 rfl ?_
        refine v_iload_n (pc' := 25) hc_X7_behind_2 dX7_behind_24 rfl rfl 3 rfl ?_
        refine v_iconst (pc' := 26) (v := 1) hc_X7_behind_2 dX7_behind_25 rfl rfl ?_
        refine v_isub (pc' := 27) hc_X7_behind_2 dX7_behind_26 rfl ?_
        exact nomatch e
      rcases ite_cs e with ⟨c8, e⟩ | ⟨_, e⟩
      · refine v_instF (pc' := 15) (ci := 21) hc_X7_behind_2 ho_X7_behind_2 rfl q2194 (by decide +kernel) dX7_behind_12 rfl c8 ?_
        refine v_if_eqT (pt := 33) hc_X7_behind_2 dX7_behind_15 rfl (by decide) ?_
        refine v_null (pc' := 34) hc_X7_behind_2 dX7_behind_33 rfl ?_
        obtain ⟨rfl, rfl⟩ := ret_of e
        exact v_aret hc_X7_behind_2 rfl (Or.inl ⟨_, rfl⟩) (Or.inl rfl) dX7_behind_34 rfl rfl
      rcases ite_cs e with ⟨c9, e⟩ | ⟨_, e⟩
      · refine v_instF (pc' := 15) (ci := 22) hc_X7_behind_2 ho_X7_behind_2 rfl q2194 (by decide +kernel) dX7_behind_12 rfl c9 ?_
        refine v_if_eqT (pt := 33) hc_X7_behind_2 dX7_behind_15 rfl (by decide) ?_
        refine v_null (pc' := 34) hc_X7_behind_2 dX7_behind_33 rfl ?_
        obtain ⟨rfl, rfl⟩ := ret_of e
        exact v_aret hc_X7_behind_2 rfl (Or.inl ⟨_, rfl⟩) (Or.inl rfl) dX7_behind_34 rfl rfl
      exact nomatch e
theorem w_X7_behind_2 (D : va_G) (l : Launch) (hl : l.stackTraces = false) (x0 : Nat) (x1 : Int32) (h : AH) {r : Option Nat} {hF : AH} (e : f_X7_behind_2 x0 x1 h = some (r, hF)) : MetV D l yX7_behind (Cond.code yX7_behind cX7_behind 4 (Option.some (.object "BlockPapers$Failure"))) 2 68 [.ref x0, .int x1] h hF (oO r) :=
  met_ofF (by decide +kernel) hl (Nat.le_of_ble_eq_true rfl) rfl (v_X7_behind_2 D l hl [.ref x0, .int x1] h x0 x1 h e)
/-! BlockPapers$Failure.behind(I)LBlockPapers$Failure; {'lv': 1} -/
abbrev G_X7_behind_1 (D : va_G) (l : Launch) (as : List Value) (h0 hF : AH) (o : Out) : CT := (D, l, (yX7_behind.cls, yX7_behind, cX7_behind, 4, (Option.some (.object "BlockPapers$Failure")), 3, 91, []), as, h0, hF, o)
theorem hc_X7_behind_1 {D : va_G} {l : Launch} {as : List Value} {h0 hF : AH} {o : Out} : gC (G_X7_behind_1 D l as h0 hF o) = cX7_behind := rfl
theorem ho_X7_behind_1 {D : va_G} {l : Launch} {as : List Value} {h0 hF : AH} {o : Out} : gO (G_X7_behind_1 D l as h0 hF o) = "BlockPapers$Failure" := rfl
theorem hp_X7_behind_1 {D : va_G} {l : Launch} {as : List Value} {h0 hF : AH} {o : Out} (pc : Nat) : ∀ z ∈ tableOf (gHd (G_X7_behind_1 D l as h0 hF o)), covers z pc = false := hpN
def f_X7_behind_1 (x0 : Nat) (x1 : Int32) (h : AH) : Option (Option Nat × AH) :=
  if x1 = 0 then (
    some ((some x0), h)
  ) else (
    gd (isC h 6 x0) <|
    bd2 (f_J9_getCause x0 h) fun r2 h3 =>
    optR r2 (
      some (none, h3)
    ) fun v5 =>
    if isC h3 6 v5 = true then (
      gd (isC h3 6 v5) <|
      gd (isC h3 6 v5) <|
      bd2 (f_X7_behind_2 v5 (x1 - (1 : Int32)) h3) fun r8 h9 =>
      optR r8 (
        some (none, h9)
      ) fun v11 =>
      some ((some v11), h9)
    ) else (
    if isC h3 21 v5 = true then (
      some (none, h3)
    ) else (
    if isC h3 22 v5 = true then (
      some (none, h3)
    ) else (
    none)))
  )
theorem v_X7_behind_1 (D : va_G) (l : Launch) (hl : l.stackTraces = false) (as : List Value) (h0 : AH) {r : Option Nat} {hF : AH} (x0 : Nat) (x1 : Int32) (h : AH) (e : f_X7_behind_1 x0 x1 h = some (r, hF)) : V (G_X7_behind_1 D l as h0 hF (oO r)) h 0 [(0, .ref x0), (1, .int x1)] [] := by
  unfold f_X7_behind_1 at e
  refine v_iload_n (pc' := 1) hc_X7_behind_1 dX7_behind_0 rfl rfl 1 rfl ?_
  refine v_if_ne (pt := 6) (pf := 4) hc_X7_behind_1 dX7_behind_1 rfl rfl e (fun _ e => ?_) (fun _ e => ?_)
  · refine v_aload_n (pc' := 5) hc_X7_behind_1 dX7_behind_4 rfl rfl 0 rfl ?_
    obtain ⟨rfl, rfl⟩ := ret_of e
    exact v_aret hc_X7_behind_1 rfl (Or.inl ⟨_, rfl⟩) (Or.inr ⟨_, rfl⟩) dX7_behind_5 rfl rfl
  · refine v_aload_n (pc' := 7) hc_X7_behind_1 dX7_behind_6 rfl rfl 0 rfl ?_
    obtain ⟨c1, e⟩ := gd_of e
    obtain ⟨r2, h3, e4, e⟩ := bd2_of e
    replace e := optR_of e
    rcases e with ⟨z, e⟩ | ⟨v5, z, e⟩
    · subst z
      refine k_UY (pc' := 10) (x := ⟨"BlockPapers$Failure", "getCause", "()Ljava/lang/Throwable;"⟩) (y := ⟨"java/lang/Throwable", "getCause", "()Ljava/lang/Throwable;"⟩) (owner := "java/lang/Throwable") (ci := 6) (n := 0) hc_X7_behind_1 ho_X7_behind_1 rfl c1 (w_J9_getCause D l hl x0 h e4) (wA_l q2188) (wA_l q2189) (Or.inl q2190) q2191 q2192 q88 q2193 hy_339 ⟨Nat.le_of_ble_eq_true rfl, Nat.le_of_ble_eq_true rfl⟩ rfl rfl (Nat.le_of_ble_eq_true rfl) dX7_behind_7 rfl (kS ?_) kN
      refine v_astore_nN (pc' := 11) (lv' := [(3, .null), (0, .ref x0), (1, .int x1)]) hc_X7_behind_1 dX7_behind_10 rfl rfl (Nat.le_of_ble_eq_true rfl) rfl ?_
      refine v_aload_nN (pc' := 12) hc_X7_behind_1 dX7_behind_11 rfl rfl 0 rfl ?_
      refine v_instN (pc' := 15) hc_X7_behind_1 dX7_behind_12 rfl ?_
      refine v_if_eqT (pt := 33) hc_X7_behind_1 dX7_behind_15 rfl (by decide) ?_
      refine v_null (pc' := 34) hc_X7_behind_1 dX7_behind_33 rfl ?_
      obtain ⟨rfl, rfl⟩ := ret_of e
      exact v_aret hc_X7_behind_1 rfl (Or.inl ⟨_, rfl⟩) (Or.inl rfl) dX7_behind_34 rfl rfl
    · subst z
      refine k_UY (pc' := 10) (x := ⟨"BlockPapers$Failure", "getCause", "()Ljava/lang/Throwable;"⟩) (y := ⟨"java/lang/Throwable", "getCause", "()Ljava/lang/Throwable;"⟩) (owner := "java/lang/Throwable") (ci := 6) (n := 0) hc_X7_behind_1 ho_X7_behind_1 rfl c1 (w_J9_getCause D l hl x0 h e4) (wA_l q2188) (wA_l q2189) (Or.inl q2190) q2191 q2192 q88 q2193 hy_339 ⟨Nat.le_of_ble_eq_true rfl, Nat.le_of_ble_eq_true rfl⟩ rfl rfl (Nat.le_of_ble_eq_true rfl) dX7_behind_7 rfl (kS ?_) kN
      refine v_astore_n (pc' := 11) (lv' := [(3, .ref v5), (0, .ref x0), (1, .int x1)]) hc_X7_behind_1 dX7_behind_10 rfl rfl (Nat.le_of_ble_eq_true rfl) rfl ?_
      refine v_aload_n (pc' := 12) hc_X7_behind_1 dX7_behind_11 rfl rfl 0 rfl ?_
      rcases ite_cs e with ⟨c12, e⟩ | ⟨_, e⟩
      · refine v_inst (pc' := 15) (ci := 6) hc_X7_behind_1 ho_X7_behind_1 rfl q2194 (Or.inl rfl) dX7_behind_12 rfl c12 ?_
        refine v_if_eqF (pt := 33) (pf := 18) hc_X7_behind_1 dX7_behind_15 rfl rfl (by decide) ?_
        refine v_aload_n (pc' := 19) hc_X7_behind_1 dX7_behind_18 rfl rfl 0 rfl ?_
        obtain ⟨c6, e⟩ := gd_of e
        refine v_cast (pc' := 22) (ci := 6) hc_X7_behind_1 ho_X7_behind_1 rfl q2194 (Or.inl rfl) dX7_behind_19 rfl c6 ?_
        refine v_astore_n (pc' := 23) (lv' := [(2, .ref v5), (3, .ref v5), (0, .ref x0), (1, .int x1)]) hc_X7_behind_1 dX7_behind_22 rfl rfl (Nat.le_of_ble_eq_true rfl) rfl ?_
        refine v_aload_n (pc' := 24) hc_X7_behind_1 dX7_behind_23 rfl rfl 0 rfl ?_
        refine v_iload_n (pc' := 25) hc_X7_behind_1 dX7_behind_24 rfl rfl 3 rfl ?_
        refine v_iconst (pc' := 26) (v := 1) hc_X7_behind_1 dX7_behind_25 rfl rfl ?_
        refine v_isub (pc' := 27) hc_X7_behind_1 dX7_behind_26 rfl ?_
        obtain ⟨c7, e⟩ := gd_of e
        obtain ⟨r8, h9, e10, e⟩ := bd2_of e
        replace e := optR_of e
        rcases e with ⟨z, e⟩ | ⟨v11, z, e⟩
        · subst z
          refine k_V (pc' := 30) (ci := 6) (n := 1) hc_X7_behind_1 ho_X7_behind_1 rfl c7 (w_X7_behind_2 D l hl v5 (x1 - (1 : Int32)) h3 e10) (wA_l q2195) q2185 (wA_l q2186) q106 q2187 hy_340 ⟨Nat.le_of_ble_eq_true rfl, Nat.le_of_ble_eq_true rfl⟩ rfl rfl (Nat.le_of_ble_eq_true rfl) dX7_behind_27 rfl (kS ?_) kN
          refine v_goto (pt := 34) hc_X7_behind_1 dX7_behind_30 rfl ?_
          obtain ⟨rfl, rfl⟩ := ret_of e
          exact v_aret hc_X7_behind_1 rfl (Or.inl ⟨_, rfl⟩) (Or.inl rfl) dX7_behind_34 rfl rfl
        · subst z
          refine k_V (pc' := 30) (ci := 6) (n := 1) hc_X7_behind_1 ho_X7_behind_1 rfl c7 (w_X7_behind_2 D l hl v5 (x1 - (1 : Int32)) h3 e10) (wA_l q2195) q2185 (wA_l q2186) q106 q2187 hy_340 ⟨Nat.le_of_ble_eq_true rfl, Nat.le_of_ble_eq_true rfl⟩ rfl rfl (Nat.le_of_ble_eq_true rfl) dX7_behind_27 rfl (kS ?_) kN
          refine v_goto (pt := 34) hc_X7_behind_1 dX7_behind_30 rfl ?_
          obtain ⟨rfl, rfl⟩ := ret_of e
          exact v_aret hc_X7_behind_1 rfl (Or.inl ⟨_, rfl⟩) (Or.inr ⟨_, rfl⟩) dX7_behind_34 rfl rfl
      rcases ite_cs e with ⟨c13, e⟩ | ⟨_, e⟩
      · refine v_instF (pc' := 15) (ci := 21) hc_X7_behind_1 ho_X7_behind_1 rfl q2194 (by decide +kernel) dX7_behind_12 rfl c13 ?_
        refine v_if_eqT (pt := 33) hc_X7_behind_1 dX7_behind_15 rfl (by decide) ?_
        refine v_null (pc' := 34) hc_X7_behind_1 dX7_behind_33 rfl ?_
        obtain ⟨rfl, rfl⟩ := ret_of e
        exact v_aret hc_X7_behind_1 rfl (Or.inl ⟨_, rfl⟩) (Or.inl rfl) dX7_behind_34 rfl rfl
      rcases ite_cs e with ⟨c14, e⟩ | ⟨_, e⟩
      · refine v_instF (pc' := 15) (ci := 22) hc_X7_behind_1 ho_X7_behind_1 rfl q2194 (by decide +kernel) dX7_behind_12 rfl c14 ?_
        refine v_if_eqT (pt := 33) hc_X7_behind_1 dX7_behind_15 rfl (by decide) ?_
        refine v_null (pc' := 34) hc_X7_behind_1 dX7_behind_33 rfl ?_
        obtain ⟨rfl, rfl⟩ := ret_of e
        exact v_aret hc_X7_behind_1 rfl (Or.inl ⟨_, rfl⟩) (Or.inl rfl) dX7_behind_34 rfl rfl
      exact nomatch e
theorem w_X7_behind_1 (D : va_G) (l : Launch) (hl : l.stackTraces = false) (x0 : Nat) (x1 : Int32) (h : AH) {r : Option Nat} {hF : AH} (e : f_X7_behind_1 x0 x1 h = some (r, hF)) : MetV D l yX7_behind (Cond.code yX7_behind cX7_behind 4 (Option.some (.object "BlockPapers$Failure"))) 3 91 [.ref x0, .int x1] h hF (oO r) :=
  met_ofF (by decide +kernel) hl (Nat.le_of_ble_eq_true rfl) rfl (v_X7_behind_1 D l hl [.ref x0, .int x1] h x0 x1 h e)
/-! BlockPapers$Failure.behind(I)LBlockPapers$Failure; {'lv': 0} -/
abbrev G_X7_behind_0 (D : va_G) (l : Launch) (as : List Value) (h0 hF : AH) (o : Out) : CT := (D, l, (yX7_behind.cls, yX7_behind, cX7_behind, 4, (Option.some (.object "BlockPapers$Failure")), 4, 114, []), as, h0, hF, o)
theorem hc_X7_behind_0 {D : va_G} {l : Launch} {as : List Value} {h0 hF : AH} {o : Out} : gC (G_X7_behind_0 D l as h0 hF o) = cX7_behind := rfl
theorem ho_X7_behind_0 {D : va_G} {l : Launch} {as : List Value} {h0 hF : AH} {o : Out} : gO (G_X7_behind_0 D l as h0 hF o) = "BlockPapers$Failure" := rfl
theorem hp_X7_behind_0 {D : va_G} {l : Launch} {as : List Value} {h0 hF : AH} {o : Out} (pc : Nat) : ∀ z ∈ tableOf (gHd (G_X7_behind_0 D l as h0 hF o)), covers z pc = false := hpN
def f_X7_behind_0 (x0 : Nat) (x1 : Int32) (h : AH) : Option (Option Nat × AH) :=
  if x1 = 0 then (
    some ((some x0), h)
  ) else (
    gd (isC h 6 x0) <|
    bd2 (f_J9_getCause x0 h) fun r2 h3 =>
    optR r2 (
      some (none, h3)
    ) fun v5 =>
    if isC h3 6 v5 = true then (
      gd (isC h3 6 v5) <|
      gd (isC h3 6 v5) <|
      bd2 (f_X7_behind_1 v5 (x1 - (1 : Int32)) h3) fun r8 h9 =>
      optR r8 (
        some (none, h9)
      ) fun v11 =>
      some ((some v11), h9)
    ) else (
    if isC h3 21 v5 = true then (
      some (none, h3)
    ) else (
    if isC h3 22 v5 = true then (
      some (none, h3)
    ) else (
    none)))
  )
theorem v_X7_behind_0 (D : va_G) (l : Launch) (hl : l.stackTraces = false) (as : List Value) (h0 : AH) {r : Option Nat} {hF : AH} (x0 : Nat) (x1 : Int32) (h : AH) (e : f_X7_behind_0 x0 x1 h = some (r, hF)) : V (G_X7_behind_0 D l as h0 hF (oO r)) h 0 [(0, .ref x0), (1, .int x1)] [] := by
  unfold f_X7_behind_0 at e
  refine v_iload_n (pc' := 1) hc_X7_behind_0 dX7_behind_0 rfl rfl 1 rfl ?_
  refine v_if_ne (pt := 6) (pf := 4) hc_X7_behind_0 dX7_behind_1 rfl rfl e (fun _ e => ?_) (fun _ e => ?_)
  · refine v_aload_n (pc' := 5) hc_X7_behind_0 dX7_behind_4 rfl rfl 0 rfl ?_
    obtain ⟨rfl, rfl⟩ := ret_of e
    exact v_aret hc_X7_behind_0 rfl (Or.inl ⟨_, rfl⟩) (Or.inr ⟨_, rfl⟩) dX7_behind_5 rfl rfl
  · refine v_aload_n (pc' := 7) hc_X7_behind_0 dX7_behind_6 rfl rfl 0 rfl ?_
    obtain ⟨c1, e⟩ := gd_of e
    obtain ⟨r2, h3, e4, e⟩ := bd2_of e
    replace e := optR_of e
    rcases e with ⟨z, e⟩ | ⟨v5, z, e⟩
    · subst z
      refine k_UY (pc' := 10) (x := ⟨"BlockPapers$Failure", "getCause", "()Ljava/lang/Throwable;"⟩) (y := ⟨"java/lang/Throwable", "getCause", "()Ljava/lang/Throwable;"⟩) (owner := "java/lang/Throwable") (ci := 6) (n := 0) hc_X7_behind_0 ho_X7_behind_0 rfl c1 (w_J9_getCause D l hl x0 h e4) (wA_l q2188) (wA_l q2189) (Or.inl q2190) q2191 q2192 q88 q2193 hy_339 ⟨Nat.le_of_ble_eq_true rfl, Nat.le_of_ble_eq_true rfl⟩ rfl rfl (Nat.le_of_ble_eq_true rfl) dX7_behind_7 rfl (kS ?_) kN
      refine v_astore_nN (pc' := 11) (lv' := [(3, .null), (0, .ref x0), (1, .int x1)]) hc_X7_behind_0 dX7_behind_10 rfl rfl (Nat.le_of_ble_eq_true rfl) rfl ?_
      refine v_aload_nN (pc' := 12) hc_X7_behind_0 dX7_behind_11 rfl rfl 0 rfl ?_
      refine v_instN (pc' := 15) hc_X7_behind_0 dX7_behind_12 rfl ?_
      refine v_if_eqT (pt := 33) hc_X7_behind_0 dX7_behind_15 rfl (by decide) ?_
      refine v_null (pc' := 34) hc_X7_behind_0 dX7_behind_33 rfl ?_
      obtain ⟨rfl, rfl⟩ := ret_of e
      exact v_aret hc_X7_behind_0 rfl (Or.inl ⟨_, rfl⟩) (Or.inl rfl) dX7_behind_34 rfl rfl
    · subst z
      refine k_UY (pc' := 10) (x := ⟨"BlockPapers$Failure", "getCause", "()Ljava/lang/Throwable;"⟩) (y := ⟨"java/lang/Throwable", "getCause", "()Ljava/lang/Throwable;"⟩) (owner := "java/lang/Throwable") (ci := 6) (n := 0) hc_X7_behind_0 ho_X7_behind_0 rfl c1 (w_J9_getCause D l hl x0 h e4) (wA_l q2188) (wA_l q2189) (Or.inl q2190) q2191 q2192 q88 q2193 hy_339 ⟨Nat.le_of_ble_eq_true rfl, Nat.le_of_ble_eq_true rfl⟩ rfl rfl (Nat.le_of_ble_eq_true rfl) dX7_behind_7 rfl (kS ?_) kN
      refine v_astore_n (pc' := 11) (lv' := [(3, .ref v5), (0, .ref x0), (1, .int x1)]) hc_X7_behind_0 dX7_behind_10 rfl rfl (Nat.le_of_ble_eq_true rfl) rfl ?_
      refine v_aload_n (pc' := 12) hc_X7_behind_0 dX7_behind_11 rfl rfl 0 rfl ?_
      rcases ite_cs e with ⟨c12, e⟩ | ⟨_, e⟩
      · refine v_inst (pc' := 15) (ci := 6) hc_X7_behind_0 ho_X7_behind_0 rfl q2194 (Or.inl rfl) dX7_behind_12 rfl c12 ?_
        refine v_if_eqF (pt := 33) (pf := 18) hc_X7_behind_0 dX7_behind_15 rfl rfl (by decide) ?_
        refine v_aload_n (pc' := 19) hc_X7_behind_0 dX7_behind_18 rfl rfl 0 rfl ?_
        obtain ⟨c6, e⟩ := gd_of e
        refine v_cast (pc' := 22) (ci := 6) hc_X7_behind_0 ho_X7_behind_0 rfl q2194 (Or.inl rfl) dX7_behind_19 rfl c6 ?_
        refine v_astore_n (pc' := 23) (lv' := [(2, .ref v5), (3, .ref v5), (0, .ref x0), (1, .int x1)]) hc_X7_behind_0 dX7_behind_22 rfl rfl (Nat.le_of_ble_eq_true rfl) rfl ?_
        refine v_aload_n (pc' := 24) hc_X7_behind_0 dX7_behind_23 rfl rfl 0 rfl ?_
        refine v_iload_n (pc' := 25) hc_X7_behind_0 dX7_behind_24 rfl rfl 3 rfl ?_
        refine v_iconst (pc' := 26) (v := 1) hc_X7_behind_0 dX7_behind_25 rfl rfl ?_
        refine v_isub (pc' := 27) hc_X7_behind_0 dX7_behind_26 rfl ?_
        obtain ⟨c7, e⟩ := gd_of e
        obtain ⟨r8, h9, e10, e⟩ := bd2_of e
        replace e := optR_of e
        rcases e with ⟨z, e⟩ | ⟨v11, z, e⟩
        · subst z
          refine k_V (pc' := 30) (ci := 6) (n := 1) hc_X7_behind_0 ho_X7_behind_0 rfl c7 (w_X7_behind_1 D l hl v5 (x1 - (1 : Int32)) h3 e10) (wA_l q2195) q2185 (wA_l q2186) q106 q2187 hy_340 ⟨Nat.le_of_ble_eq_true rfl, Nat.le_of_ble_eq_true rfl⟩ rfl rfl (Nat.le_of_ble_eq_true rfl) dX7_behind_27 rfl (kS ?_) kN
          refine v_goto (pt := 34) hc_X7_behind_0 dX7_behind_30 rfl ?_
          obtain ⟨rfl, rfl⟩ := ret_of e
          exact v_aret hc_X7_behind_0 rfl (Or.inl ⟨_, rfl⟩) (Or.inl rfl) dX7_behind_34 rfl rfl
        · subst z
          refine k_V (pc' := 30) (ci := 6) (n := 1) hc_X7_behind_0 ho_X7_behind_0 rfl c7 (w_X7_behind_1 D l hl v5 (x1 - (1 : Int32)) h3 e10) (wA_l q2195) q2185 (wA_l q2186) q106 q2187 hy_340 ⟨Nat.le_of_ble_eq_true rfl, Nat.le_of_ble_eq_true rfl⟩ rfl rfl (Nat.le_of_ble_eq_true rfl) dX7_behind_27 rfl (kS ?_) kN
          refine v_goto (pt := 34) hc_X7_behind_0 dX7_behind_30 rfl ?_
          obtain ⟨rfl, rfl⟩ := ret_of e
          exact v_aret hc_X7_behind_0 rfl (Or.inl ⟨_, rfl⟩) (Or.inr ⟨_, rfl⟩) dX7_behind_34 rfl rfl
      rcases ite_cs e with ⟨c13, e⟩ | ⟨_, e⟩
      · refine v_instF (pc' := 15) (ci := 21) hc_X7_behind_0 ho_X7_behind_0 rfl q2194 (by decide +kernel) dX7_behind_12 rfl c13 ?_
        refine v_if_eqT (pt := 33) hc_X7_behind_0 dX7_behind_15 rfl (by decide) ?_
        refine v_null (pc' := 34) hc_X7_behind_0 dX7_behind_33 rfl ?_
        obtain ⟨rfl, rfl⟩ := ret_of e
        exact v_aret hc_X7_behind_0 rfl (Or.inl ⟨_, rfl⟩) (Or.inl rfl) dX7_behind_34 rfl rfl
      rcases ite_cs e with ⟨c14, e⟩ | ⟨_, e⟩
      · refine v_instF (pc' := 15) (ci := 22) hc_X7_behind_0 ho_X7_behind_0 rfl q2194 (by decide +kernel) dX7_behind_12 rfl c14 ?_
        refine v_if_eqT (pt := 33) hc_X7_behind_0 dX7_behind_15 rfl (by decide) ?_
        refine v_null (pc' := 34) hc_X7_behind_0 dX7_behind_33 rfl ?_
        obtain ⟨rfl, rfl⟩ := ret_of e
        exact v_aret hc_X7_behind_0 rfl (Or.inl ⟨_, rfl⟩) (Or.inl rfl) dX7_behind_34 rfl rfl
      exact nomatch e
theorem w_X7_behind_0 (D : va_G) (l : Launch) (hl : l.stackTraces = false) (x0 : Nat) (x1 : Int32) (h : AH) {r : Option Nat} {hF : AH} (e : f_X7_behind_0 x0 x1 h = some (r, hF)) : MetV D l yX7_behind (Cond.code yX7_behind cX7_behind 4 (Option.some (.object "BlockPapers$Failure"))) 4 114 [.ref x0, .int x1] h hF (oO r) :=
  met_ofF (by decide +kernel) hl (Nat.le_of_ble_eq_true rfl) rfl (v_X7_behind_0 D l hl [.ref x0, .int x1] h x0 x1 h e)
/-! BlockPapers.refusal(IZ)I  -/
abbrev G_X1_refusal (D : va_G) (l : Launch) (as : List Value) (h0 hF : AH) (o : Out) : CT := (D, l, (yX1_refusal.cls, yX1_refusal, cX1_refusal, 4, (Option.some .int), 7, 137, []), as, h0, hF, o)
theorem hc_X1_refusal {D : va_G} {l : Launch} {as : List Value} {h0 hF : AH} {o : Out} : gC (G_X1_refusal D l as h0 hF o) = cX1_refusal := rfl
theorem ho_X1_refusal {D : va_G} {l : Launch} {as : List Value} {h0 hF : AH} {o : Out} : gO (G_X1_refusal D l as h0 hF o) = "BlockPapers" := rfl
theorem hp_X1_refusal {D : va_G} {l : Launch} {as : List Value} {h0 hF : AH} {o : Out} (pc : Nat) : ∀ z ∈ tableOf (gHd (G_X1_refusal D l as h0 hF o)), covers z pc = false := hpN
def f_X1_refusal_j37 (x2 : Int32) (x3 : Option Nat) (s0 : Int32) (h : AH) : Option ((Int32 ⊕ Nat) × AH) :=
  optR x3 (
    bdX (f_X1_requireElement s0 h) (fun zq4 h2 =>
      outX h2 zq4
    ) fun r1 h2 =>
    if x2 = 0 then (
      none
    ) else (
      none
    )
  ) fun x3_ =>
  bdX (f_X1_requireElement s0 h) (fun zq10 h6 =>
    outX h6 zq10
  ) fun r5 h6 =>
  if x2 = 0 then (
    bd (gtI h6 6 x3_ 6) fun v8 =>
    some (.inl v8, h6)
  ) else (
    bd (gtI h6 6 x3_ 7) fun v9 =>
    some (.inl v9, h6)
  )
theorem w_X1_refusal_j37 (D : va_G) (l : Launch) (hl : l.stackTraces = false) (as : List Value) (h0 : AH) {r : (Int32 ⊕ Nat)} {hF : AH} (x2 : Int32) (x3 : Option Nat) (s0 : Int32) (h : AH) (e : f_X1_refusal_j37 x2 x3 s0 h = some (r, hF)) : V (G_X1_refusal D l as h0 hF ((oX oI) r)) h 37 [(2, .int x2), (3, va_rf x3)] [.int s0] := by
  unfold f_X1_refusal_j37 at e
  replace e := optR_of e
  rcases e with ⟨z, e⟩ | ⟨x3_, z, e⟩
  · subst z
    rcases bdX_of e with ⟨r1, h2, e3, e⟩ | ⟨zq4, h2, e3, e⟩
    · refine k_S (pc' := 40) (n := 1) hc_X1_refusal ho_X1_refusal (w_X1_requireElement D l hl s0 h e3) (wA_l q1657) q438 q75 q439 hy_159 ⟨Nat.le_of_ble_eq_true rfl, Nat.le_of_ble_eq_true rfl⟩ rfl rfl (Nat.le_of_ble_eq_true rfl) dX1_refusal_37 rfl (kU ?_) kN
      refine v_iload_n (pc' := 41) hc_X1_refusal dX1_refusal_40 rfl rfl 0 rfl ?_
      refine v_if_eq (pt := 51) (pf := 44) hc_X1_refusal dX1_refusal_41 rfl rfl e (fun _ e => ?_) (fun _ e => ?_)
      · refine v_aload_nN (pc' := 52) hc_X1_refusal dX1_refusal_51 rfl rfl 1 rfl ?_
        exact nomatch e
      · refine v_aload_nN (pc' := 45) hc_X1_refusal dX1_refusal_44 rfl rfl 1 rfl ?_
        exact nomatch e
    · refine k_S (pc' := 40) (n := 1) hc_X1_refusal ho_X1_refusal (w_X1_requireElement D l hl s0 h e3) (wA_l q1657) q438 q75 q439 hy_159 ⟨Nat.le_of_ble_eq_true rfl, Nat.le_of_ble_eq_true rfl⟩ rfl rfl (Nat.le_of_ble_eq_true rfl) dX1_refusal_37 rfl kM (kX ?_)
      exact v_outA (hp_X1_refusal _) rfl rfl e
  · subst z
    rcases bdX_of e with ⟨r5, h6, e7, e⟩ | ⟨zq10, h6, e7, e⟩
    · refine k_S (pc' := 40) (n := 1) hc_X1_refusal ho_X1_refusal (w_X1_requireElement D l hl s0 h e7) (wA_l q1657) q438 q75 q439 hy_159 ⟨Nat.le_of_ble_eq_true rfl, Nat.le_of_ble_eq_true rfl⟩ rfl rfl (Nat.le_of_ble_eq_true rfl) dX1_refusal_37 rfl (kU ?_) kN
      refine v_iload_n (pc' := 41) hc_X1_refusal dX1_refusal_40 rfl rfl 0 rfl ?_
      refine v_if_eq (pt := 51) (pf := 44) hc_X1_refusal dX1_refusal_41 rfl rfl e (fun _ e => ?_) (fun _ e => ?_)
      · refine v_aload_n (pc' := 52) hc_X1_refusal dX1_refusal_51 rfl rfl 1 rfl ?_
        refine v_gnI (pc' := 55) hc_X1_refusal ho_X1_refusal KX7 6 (Nat.le_of_ble_eq_true rfl) q1111 rfl dX1_refusal_52 rfl e (fun v8 _ e => ?_)
        obtain ⟨rfl, rfl⟩ := ret_of e
        exact v_iret hc_X1_refusal rfl dX1_refusal_55 rfl rfl
      · refine v_aload_n (pc' := 45) hc_X1_refusal dX1_refusal_44 rfl rfl 1 rfl ?_
        refine v_gnI (pc' := 48) hc_X1_refusal ho_X1_refusal KX7 7 (Nat.le_of_ble_eq_true rfl) q1113 rfl dX1_refusal_45 rfl e (fun v9 _ e => ?_)
        refine v_goto (pt := 55) hc_X1_refusal dX1_refusal_48 rfl ?_
        obtain ⟨rfl, rfl⟩ := ret_of e
        exact v_iret hc_X1_refusal rfl dX1_refusal_55 rfl rfl
    · refine k_S (pc' := 40) (n := 1) hc_X1_refusal ho_X1_refusal (w_X1_requireElement D l hl s0 h e7) (wA_l q1657) q438 q75 q439 hy_159 ⟨Nat.le_of_ble_eq_true rfl, Nat.le_of_ble_eq_true rfl⟩ rfl rfl (Nat.le_of_ble_eq_true rfl) dX1_refusal_37 rfl kM (kX ?_)
      exact v_outA (hp_X1_refusal _) rfl rfl e
def f_X1_refusal_j16 (x0 : Nat) (x1 : Int32) (x2 : Int32) (s0 : Int32) (h : AH) : Option ((Int32 ⊕ Nat) × AH) :=
  bdX (f_X1_requireElement s0 h) (fun zq11 h2 =>
    outX h2 zq11
  ) fun r1 h2 =>
  bd (gtO h2 0 x0 5) fun r10 => optR r10 (
    none
  ) fun v4 =>
  gd (isC h2 6 v4) <|
  bd2 (f_X7_behind_0 v4 x1 h2) fun r6 h7 =>
  optR r6 (
    f_X1_refusal_j37 x2 none (0 : Int32) h7
  ) fun v9 =>
  f_X1_refusal_j37 x2 (some v9) (1 : Int32) h7
theorem w_X1_refusal_j16 (D : va_G) (l : Launch) (hl : l.stackTraces = false) (as : List Value) (h0 : AH) {r : (Int32 ⊕ Nat)} {hF : AH} (x0 : Nat) (x1 : Int32) (x2 : Int32) (s0 : Int32) (h : AH) (e : f_X1_refusal_j16 x0 x1 x2 s0 h = some (r, hF)) : V (G_X1_refusal D l as h0 hF ((oX oI) r)) h 16 [(0, .ref x0), (1, .int x1), (2, .int x2)] [.int s0] := by
  unfold f_X1_refusal_j16 at e
  rcases bdX_of e with ⟨r1, h2, e3, e⟩ | ⟨zq11, h2, e3, e⟩
  · refine k_S (pc' := 19) (n := 1) hc_X1_refusal ho_X1_refusal (w_X1_requireElement D l hl s0 h e3) (wA_l q1657) q438 q75 q439 hy_159 ⟨Nat.le_of_ble_eq_true rfl, Nat.le_of_ble_eq_true rfl⟩ rfl rfl (Nat.le_of_ble_eq_true rfl) dX1_refusal_16 rfl (kU ?_) kN
    refine v_aload_n (pc' := 20) hc_X1_refusal dX1_refusal_19 rfl rfl 0 rfl ?_
    refine v_gfO (pc' := 23) hc_X1_refusal ho_X1_refusal KX1 5 (Nat.le_of_ble_eq_true rfl) q241 (Or.inl rfl) dX1_refusal_20 rfl e (fun _ e => ?_) (fun v4 _ e => ?_)
    · refine v_iload_n (pc' := 24) hc_X1_refusal dX1_refusal_23 rfl rfl 1 rfl ?_
      exact nomatch e
    · refine v_iload_n (pc' := 24) hc_X1_refusal dX1_refusal_23 rfl rfl 1 rfl ?_
      obtain ⟨c5, e⟩ := gd_of e
      obtain ⟨r6, h7, e8, e⟩ := bd2_of e
      replace e := optR_of e
      rcases e with ⟨z, e⟩ | ⟨v9, z, e⟩
      · subst z
        refine k_V (pc' := 27) (ci := 6) (n := 1) hc_X1_refusal ho_X1_refusal rfl c5 (w_X7_behind_0 D l hl v4 x1 h2 e8) (wA_l q2184) q2185 (wA_l q2186) q106 q2187 hy_340 ⟨Nat.le_of_ble_eq_true rfl, Nat.le_of_ble_eq_true rfl⟩ rfl rfl (Nat.le_of_ble_eq_true rfl) dX1_refusal_24 rfl (kS ?_) kN
        refine v_astore_nN (pc' := 28) (lv' := [(3, .null), (0, .ref x0), (1, .int x1), (2, .int x2)]) hc_X1_refusal dX1_refusal_27 rfl rfl (Nat.le_of_ble_eq_true rfl) rfl ?_
        refine v_aload_nN (pc' := 29) hc_X1_refusal dX1_refusal_28 rfl rfl 0 rfl ?_
        refine v_ifnullN (x := 0) (pt := 36) hc_X1_refusal dX1_refusal_29 rfl ?_
        refine v_iconst (pc' := 37) (v := 0) hc_X1_refusal dX1_refusal_36 rfl rfl ?_
        refine v_pick [3, 0] rfl ?_
        exact w_X1_refusal_j37 D l hl as h0 x2 none (0 : Int32) h7 e
      · subst z
        refine k_V (pc' := 27) (ci := 6) (n := 1) hc_X1_refusal ho_X1_refusal rfl c5 (w_X7_behind_0 D l hl v4 x1 h2 e8) (wA_l q2184) q2185 (wA_l q2186) q106 q2187 hy_340 ⟨Nat.le_of_ble_eq_true rfl, Nat.le_of_ble_eq_true rfl⟩ rfl rfl (Nat.le_of_ble_eq_true rfl) dX1_refusal_24 rfl (kS ?_) kN
        refine v_astore_n (pc' := 28) (lv' := [(3, .ref v9), (0, .ref x0), (1, .int x1), (2, .int x2)]) hc_X1_refusal dX1_refusal_27 rfl rfl (Nat.le_of_ble_eq_true rfl) rfl ?_
        refine v_aload_n (pc' := 29) hc_X1_refusal dX1_refusal_28 rfl rfl 0 rfl ?_
        refine v_ifnull (pc' := 32) hc_X1_refusal dX1_refusal_29 rfl ?_
        refine v_iconst (pc' := 33) (v := 1) hc_X1_refusal dX1_refusal_32 rfl rfl ?_
        refine v_goto (pt := 37) hc_X1_refusal dX1_refusal_33 rfl ?_
        refine v_pick [3, 0] rfl ?_
        exact w_X1_refusal_j37 D l hl as h0 x2 (some v9) (1 : Int32) h7 e
  · refine k_S (pc' := 19) (n := 1) hc_X1_refusal ho_X1_refusal (w_X1_requireElement D l hl s0 h e3) (wA_l q1657) q438 q75 q439 hy_159 ⟨Nat.le_of_ble_eq_true rfl, Nat.le_of_ble_eq_true rfl⟩ rfl rfl (Nat.le_of_ble_eq_true rfl) dX1_refusal_16 rfl kM (kX ?_)
    exact v_outA (hp_X1_refusal _) rfl rfl e
def f_X1_refusal (x0 : Nat) (x1 : Int32) (x2 : Int32) (h : AH) : Option ((Int32 ⊕ Nat) × AH) :=
  bd (gtO h 0 x0 5) fun r2 => optR r2 (
    f_X1_refusal_j16 x0 x1 x2 (0 : Int32) h
  ) fun v1 =>
  if x1 < 0 then (
    f_X1_refusal_j16 x0 x1 x2 (0 : Int32) h
  ) else (
    f_X1_refusal_j16 x0 x1 x2 (1 : Int32) h
  )
theorem v_X1_refusal (D : va_G) (l : Launch) (hl : l.stackTraces = false) (as : List Value) (h0 : AH) {r : (Int32 ⊕ Nat)} {hF : AH} (x0 : Nat) (x1 : Int32) (x2 : Int32) (h : AH) (e : f_X1_refusal x0 x1 x2 h = some (r, hF)) : V (G_X1_refusal D l as h0 hF ((oX oI) r)) h 0 [(0, .ref x0), (1, .int x1), (2, .int x2)] [] := by
  unfold f_X1_refusal at e
  refine v_aload_n (pc' := 1) hc_X1_refusal dX1_refusal_0 rfl rfl 0 rfl ?_
  refine v_gfO (pc' := 4) hc_X1_refusal ho_X1_refusal KX1 5 (Nat.le_of_ble_eq_true rfl) q241 (Or.inl rfl) dX1_refusal_1 rfl e (fun _ e => ?_) (fun v1 _ e => ?_)
  · refine v_ifnullN (x := 0) (pt := 15) hc_X1_refusal dX1_refusal_4 rfl ?_
    refine v_iconst (pc' := 16) (v := 0) hc_X1_refusal dX1_refusal_15 rfl rfl ?_
    exact w_X1_refusal_j16 D l hl as h0 x0 x1 x2 (0 : Int32) h e
  · refine v_ifnull (pc' := 7) hc_X1_refusal dX1_refusal_4 rfl ?_
    refine v_iload_n (pc' := 8) hc_X1_refusal dX1_refusal_7 rfl rfl 1 rfl ?_
    refine v_if_lt (pt := 15) (pf := 11) hc_X1_refusal dX1_refusal_8 rfl rfl e (fun _ e => ?_) (fun _ e => ?_)
    · refine v_iconst (pc' := 16) (v := 0) hc_X1_refusal dX1_refusal_15 rfl rfl ?_
      exact w_X1_refusal_j16 D l hl as h0 x0 x1 x2 (0 : Int32) h e
    · refine v_iconst (pc' := 12) (v := 1) hc_X1_refusal dX1_refusal_11 rfl rfl ?_
      refine v_goto (pt := 16) hc_X1_refusal dX1_refusal_12 rfl ?_
      exact w_X1_refusal_j16 D l hl as h0 x0 x1 x2 (1 : Int32) h e
theorem w_X1_refusal (D : va_G) (l : Launch) (hl : l.stackTraces = false) (x0 : Nat) (x1 : Int32) (x2 : Int32) (h : AH) {r : (Int32 ⊕ Nat)} {hF : AH} (e : f_X1_refusal x0 x1 x2 h = some (r, hF)) : MetV D l yX1_refusal (Cond.code yX1_refusal cX1_refusal 4 (Option.some .int)) 7 137 [.ref x0, .int x1, .int x2] h hF ((oX oI) r) :=
  met_ofF (by decide +kernel) hl (Nat.le_of_ble_eq_true rfl) rfl (v_X1_refusal D l hl [.ref x0, .int x1, .int x2] h x0 x1 x2 h e)
/-! BlockPapers.undo()I  -/
abbrev G_X1_undo (D : va_G) (l : Launch) (as : List Value) (h0 hF : AH) (o : Out) : CT := (D, l, (yX1_undo.cls, yX1_undo, cX1_undo, 1, (Option.some .int), 7, 133, []), as, h0, hF, o)
theorem hc_X1_undo {D : va_G} {l : Launch} {as : List Value} {h0 hF : AH} {o : Out} : gC (G_X1_undo D l as h0 hF o) = cX1_undo := rfl
theorem ho_X1_undo {D : va_G} {l : Launch} {as : List Value} {h0 hF : AH} {o : Out} : gO (G_X1_undo D l as h0 hF o) = "BlockPapers" := rfl
theorem hp_X1_undo {D : va_G} {l : Launch} {as : List Value} {h0 hF : AH} {o : Out} (pc : Nat) : ∀ z ∈ tableOf (gHd (G_X1_undo D l as h0 hF o)), covers z pc = false := hpN
def f_X1_undo_j15 (x0 : Nat) (s0 : Int32) (h : AH) : Option ((Int32 ⊕ Nat) × AH) :=
  bdX (f_X1_requireState s0 h) (fun zq16 h2 =>
    outX h2 zq16
  ) fun r1 h2 =>
  bd (gtR h2 0 x0 1) fun v4 =>
  gd (isC h2 17 v4) <|
  bd2 (f_J3_pop v4 h2) fun r6 h7 =>
  gd (isC h7 1 r6) <|
  bd (stF h7 0 x0 0 (.ref r6)) fun h10 =>
  bd (gtR h10 0 x0 1) fun v11 =>
  gd (isC h10 17 v11) <|
  bd2 (f_J3_size v11 h10) fun r13 h14 =>
  some (.inl r13, h14)
theorem w_X1_undo_j15 (D : va_G) (l : Launch) (hl : l.stackTraces = false) (as : List Value) (h0 : AH) {r : (Int32 ⊕ Nat)} {hF : AH} (x0 : Nat) (s0 : Int32) (h : AH) (e : f_X1_undo_j15 x0 s0 h = some (r, hF)) : V (G_X1_undo D l as h0 hF ((oX oI) r)) h 15 [(0, .ref x0)] [.int s0] := by
  unfold f_X1_undo_j15 at e
  rcases bdX_of e with ⟨r1, h2, e3, e⟩ | ⟨zq16, h2, e3, e⟩
  · refine k_S (pc' := 18) (n := 1) hc_X1_undo ho_X1_undo (w_X1_requireState D l hl s0 h e3) (wA_l q1935) q1936 q75 q1937 hy_292 ⟨Nat.le_of_ble_eq_true rfl, Nat.le_of_ble_eq_true rfl⟩ rfl rfl (Nat.le_of_ble_eq_true rfl) dX1_undo_15 rfl (kU ?_) kN
    refine v_aload_n (pc' := 19) hc_X1_undo dX1_undo_18 rfl rfl 0 rfl ?_
    refine v_aload_n (pc' := 20) hc_X1_undo dX1_undo_19 rfl rfl 0 rfl ?_
    refine v_gfR (pc' := 23) hc_X1_undo ho_X1_undo KX1 1 (Nat.le_of_ble_eq_true rfl) q236 (Or.inl rfl) dX1_undo_20 rfl e (fun v4 _ e => ?_)
    obtain ⟨c5, e⟩ := gd_of e
    obtain ⟨r6, h7, e8, e⟩ := bd2_of e
    refine k_V (pc' := 26) (ci := 17) (n := 0) hc_X1_undo ho_X1_undo rfl c5 (w_J3_pop D l hl v4 h2 e8) (wA_l q2207) q2208 (wA_l q2209) q80 q2210 hy_348 ⟨Nat.le_of_ble_eq_true rfl, Nat.le_of_ble_eq_true rfl⟩ rfl rfl (Nat.le_of_ble_eq_true rfl) dX1_undo_23 rfl (kS ?_) kN
    obtain ⟨c9, e⟩ := gd_of e
    refine v_cast (pc' := 29) (ci := 1) hc_X1_undo ho_X1_undo rfl q129 (Or.inl rfl) dX1_undo_26 rfl c9 ?_
    refine v_pf (pc' := 32) hc_X1_undo ho_X1_undo KX1 0 (Nat.le_of_ble_eq_true rfl) q235 (Or.inl rfl) rfl dX1_undo_29 rfl rfl rfl e (fun h10 _ e => ?_)
    refine v_aload_n (pc' := 33) hc_X1_undo dX1_undo_32 rfl rfl 0 rfl ?_
    refine v_gfR (pc' := 36) hc_X1_undo ho_X1_undo KX1 1 (Nat.le_of_ble_eq_true rfl) q236 (Or.inl rfl) dX1_undo_33 rfl e (fun v11 _ e => ?_)
    obtain ⟨c12, e⟩ := gd_of e
    obtain ⟨r13, h14, e15, e⟩ := bd2_of e
    refine k_V (pc' := 39) (ci := 17) (n := 0) hc_X1_undo ho_X1_undo rfl c12 (w_J3_size D l hl v11 h10 e15) (wA_l q526) q527 (wA_l q528) q80 q529 hy_97 ⟨Nat.le_of_ble_eq_true rfl, Nat.le_of_ble_eq_true rfl⟩ rfl rfl (Nat.le_of_ble_eq_true rfl) dX1_undo_36 rfl (kS ?_) kN
    obtain ⟨rfl, rfl⟩ := ret_of e
    exact v_iret hc_X1_undo rfl dX1_undo_39 rfl rfl
  · refine k_S (pc' := 18) (n := 1) hc_X1_undo ho_X1_undo (w_X1_requireState D l hl s0 h e3) (wA_l q1935) q1936 q75 q1937 hy_292 ⟨Nat.le_of_ble_eq_true rfl, Nat.le_of_ble_eq_true rfl⟩ rfl rfl (Nat.le_of_ble_eq_true rfl) dX1_undo_15 rfl kM (kX ?_)
    exact v_outA (hp_X1_undo _) rfl rfl e
def f_X1_undo (x0 : Nat) (h : AH) : Option ((Int32 ⊕ Nat) × AH) :=
  bd (gtR h 0 x0 1) fun v1 =>
  gd (isC h 17 v1) <|
  bd2 (f_J3_isEmpty v1 h) fun r3 h4 =>
  if r3 = 0 then (
    f_X1_undo_j15 x0 (1 : Int32) h4
  ) else (
    f_X1_undo_j15 x0 (0 : Int32) h4
  )
theorem v_X1_undo (D : va_G) (l : Launch) (hl : l.stackTraces = false) (as : List Value) (h0 : AH) {r : (Int32 ⊕ Nat)} {hF : AH} (x0 : Nat) (h : AH) (e : f_X1_undo x0 h = some (r, hF)) : V (G_X1_undo D l as h0 hF ((oX oI) r)) h 0 [(0, .ref x0)] [] := by
  unfold f_X1_undo at e
  refine v_aload_n (pc' := 1) hc_X1_undo dX1_undo_0 rfl rfl 0 rfl ?_
  refine v_gfR (pc' := 4) hc_X1_undo ho_X1_undo KX1 1 (Nat.le_of_ble_eq_true rfl) q236 (Or.inl rfl) dX1_undo_1 rfl e (fun v1 _ e => ?_)
  obtain ⟨c2, e⟩ := gd_of e
  obtain ⟨r3, h4, e5, e⟩ := bd2_of e
  refine k_V (pc' := 7) (ci := 17) (n := 0) hc_X1_undo ho_X1_undo rfl c2 (w_J3_isEmpty D l hl v1 h e5) (wA_l q2203) q2204 (wA_l q2205) q80 q2206 hy_344 ⟨Nat.le_of_ble_eq_true rfl, Nat.le_of_ble_eq_true rfl⟩ rfl rfl (Nat.le_of_ble_eq_true rfl) dX1_undo_4 rfl (kS ?_) kN
  refine v_if_ne (pt := 14) (pf := 10) hc_X1_undo dX1_undo_7 rfl rfl e (fun _ e => ?_) (fun _ e => ?_)
  · refine v_iconst (pc' := 11) (v := 1) hc_X1_undo dX1_undo_10 rfl rfl ?_
    refine v_goto (pt := 15) hc_X1_undo dX1_undo_11 rfl ?_
    exact w_X1_undo_j15 D l hl as h0 x0 (1 : Int32) h4 e
  · refine v_iconst (pc' := 15) (v := 0) hc_X1_undo dX1_undo_14 rfl rfl ?_
    exact w_X1_undo_j15 D l hl as h0 x0 (0 : Int32) h4 e
theorem w_X1_undo (D : va_G) (l : Launch) (hl : l.stackTraces = false) (x0 : Nat) (h : AH) {r : (Int32 ⊕ Nat)} {hF : AH} (e : f_X1_undo x0 h = some (r, hF)) : MetV D l yX1_undo (Cond.code yX1_undo cX1_undo 1 (Option.some .int)) 7 133 [.ref x0] h hF ((oX oI) r) :=
  met_ofF (by decide +kernel) hl (Nat.le_of_ble_eq_true rfl) rfl (v_X1_undo D l hl [.ref x0] h x0 h e)
/-! BlockPapers.saveSnapshot()I  -/
abbrev G_X1_saveSnapshot (D : va_G) (l : Launch) (as : List Value) (h0 hF : AH) (o : Out) : CT := (D, l, (yX1_saveSnapshot.cls, yX1_saveSnapshot, cX1_saveSnapshot, 1, (Option.some .int), 10, 242, []), as, h0, hF, o)
theorem hc_X1_saveSnapshot {D : va_G} {l : Launch} {as : List Value} {h0 hF : AH} {o : Out} : gC (G_X1_saveSnapshot D l as h0 hF o) = cX1_saveSnapshot := rfl
theorem ho_X1_saveSnapshot {D : va_G} {l : Launch} {as : List Value} {h0 hF : AH} {o : Out} : gO (G_X1_saveSnapshot D l as h0 hF o) = "BlockPapers" := rfl
theorem hp_X1_saveSnapshot {D : va_G} {l : Launch} {as : List Value} {h0 hF : AH} {o : Out} (pc : Nat) : ∀ z ∈ tableOf (gHd (G_X1_saveSnapshot D l as h0 hF o)), covers z pc = false := hpN
def f_X1_saveSnapshot (x0 : Nat) (h : AH) : Option (Int32 × AH) :=
  gd (isC h 0 x0) <|
  bd2 (f_X1_draft x0 h) fun r2 h3 =>
  bd (stF h3 0 x0 6 (.ref r2)) fun h5 =>
  bd (gtO h5 0 x0 6) fun r12 => optR r12 (
    none
  ) fun v6 =>
  bd (gtR h5 1 v6 2) fun v7 =>
  gd (isC h5 16 v7) <|
  bd2 (f_J2_size v7 h5) fun r9 h10 =>
  some (r9, h10)
theorem v_X1_saveSnapshot (D : va_G) (l : Launch) (hl : l.stackTraces = false) (as : List Value) (h0 : AH) {r : Int32} {hF : AH} (x0 : Nat) (h : AH) (e : f_X1_saveSnapshot x0 h = some (r, hF)) : V (G_X1_saveSnapshot D l as h0 hF (oI r)) h 0 [(0, .ref x0)] [] := by
  unfold f_X1_saveSnapshot at e
  refine v_aload_n (pc' := 1) hc_X1_saveSnapshot dX1_saveSnapshot_0 rfl rfl 0 rfl ?_
  refine v_aload_n (pc' := 2) hc_X1_saveSnapshot dX1_saveSnapshot_1 rfl rfl 0 rfl ?_
  obtain ⟨c1, e⟩ := gd_of e
  obtain ⟨r2, h3, e4, e⟩ := bd2_of e
  refine k_V (pc' := 5) (ci := 0) (n := 0) hc_X1_saveSnapshot ho_X1_saveSnapshot rfl c1 (w_X1_draft D l hl x0 h e4) (wA_l q555) q557 (wA_l qs3) q75 q558 hy_30 ⟨Nat.le_of_ble_eq_true rfl, Nat.le_of_ble_eq_true rfl⟩ rfl rfl (Nat.le_of_ble_eq_true rfl) dX1_saveSnapshot_2 rfl (kS ?_) kN
  refine v_pf (pc' := 8) hc_X1_saveSnapshot ho_X1_saveSnapshot KX1 6 (Nat.le_of_ble_eq_true rfl) q242 (Or.inl rfl) rfl dX1_saveSnapshot_5 rfl rfl rfl e (fun h5 _ e => ?_)
  refine v_aload_n (pc' := 9) hc_X1_saveSnapshot dX1_saveSnapshot_8 rfl rfl 0 rfl ?_
  refine v_gfO (pc' := 12) hc_X1_saveSnapshot ho_X1_saveSnapshot KX1 6 (Nat.le_of_ble_eq_true rfl) q242 (Or.inl rfl) dX1_saveSnapshot_9 rfl e (fun _ e => ?_) (fun v6 _ e => ?_)
  · exact nomatch e
  · refine v_gnR (pc' := 15) hc_X1_saveSnapshot ho_X1_saveSnapshot KX2 2 (Nat.le_of_ble_eq_true rfl) q170 rfl dX1_saveSnapshot_12 rfl e (fun v7 _ e => ?_)
    obtain ⟨c8, e⟩ := gd_of e
    obtain ⟨r9, h10, e11, e⟩ := bd2_of e
    refine k_F (pc' := 20) (x := ⟨"java/util/List", "size", "()I"⟩) (y := ⟨"java/util/ArrayList", "size", "()I"⟩) (ci := 16) (n := 0) hc_X1_saveSnapshot ho_X1_saveSnapshot rfl c8 (w_J2_size D l hl v7 h5 e11) (wA_l q344) (by decide +kernel) q348 q350 q79 q352 hy_19 ⟨Nat.le_of_ble_eq_true rfl, Nat.le_of_ble_eq_true rfl⟩ rfl rfl (Nat.le_of_ble_eq_true rfl) dX1_saveSnapshot_15 rfl (kS ?_) kN
    obtain ⟨rfl, rfl⟩ := ret_of e
    exact v_iret hc_X1_saveSnapshot rfl dX1_saveSnapshot_20 rfl rfl
theorem w_X1_saveSnapshot (D : va_G) (l : Launch) (hl : l.stackTraces = false) (x0 : Nat) (h : AH) {r : Int32} {hF : AH} (e : f_X1_saveSnapshot x0 h = some (r, hF)) : MetV D l yX1_saveSnapshot (Cond.code yX1_saveSnapshot cX1_saveSnapshot 1 (Option.some .int)) 10 242 [.ref x0] h hF (oI r) :=
  met_ofF (by decide +kernel) hl (Nat.le_of_ble_eq_true rfl) rfl (v_X1_saveSnapshot D l hl [.ref x0] h x0 h e)
/-! BlockPapers$Workshop.<init>(LBlockPapers$Workshop;)V {'nul': (1,)} -/
abbrev G_X2_init_2_n1 (D : va_G) (l : Launch) (as : List Value) (h0 hF : AH) (o : Out) : CT := (D, l, (yX2_init_2.cls, yX2_init_2, cX2_init_2, 3, (Option.none : Option FieldType), 5, 128, []), as, h0, hF, o)
theorem hc_X2_init_2_n1 {D : va_G} {l : Launch} {as : List Value} {h0 hF : AH} {o : Out} : gC (G_X2_init_2_n1 D l as h0 hF o) = cX2_init_2 := rfl
theorem ho_X2_init_2_n1 {D : va_G} {l : Launch} {as : List Value} {h0 hF : AH} {o : Out} : gO (G_X2_init_2_n1 D l as h0 hF o) = "BlockPapers$Workshop" := rfl
theorem hp_X2_init_2_n1 {D : va_G} {l : Launch} {as : List Value} {h0 hF : AH} {o : Out} (pc : Nat) : ∀ z ∈ tableOf (gHd (G_X2_init_2_n1 D l as h0 hF o)), covers z pc = false := hpN
def f_X2_init_2_n1 (x0 : Nat) (h : AH) : Option (Unit × AH) :=
  bd2 (f_X2_init x0 h) fun r1 h2 =>
  bd (gtR h2 1 x0 0) fun v4 =>
  none
theorem v_X2_init_2_n1 (D : va_G) (l : Launch) (hl : l.stackTraces = false) (as : List Value) (h0 : AH) {r : Unit} {hF : AH} (x0 : Nat) (h : AH) (e : f_X2_init_2_n1 x0 h = some (r, hF)) : V (G_X2_init_2_n1 D l as h0 hF (oV r)) h 0 [(0, .ref x0), (1, .null)] [] := by
  unfold f_X2_init_2_n1 at e
  refine v_aload_n (pc' := 1) hc_X2_init_2_n1 dX2_init_2_0 rfl rfl 0 rfl ?_
  obtain ⟨r1, h2, e3, e⟩ := bd2_of e
  refine k_I (pc' := 4) (n := 0) hc_X2_init_2_n1 ho_X2_init_2_n1 (w_X2_init D l hl x0 h e3) (wA_l q562) q132 q76 q133 rfl hy_3 ⟨Nat.le_of_ble_eq_true rfl, Nat.le_of_ble_eq_true rfl⟩ rfl rfl (Nat.le_of_ble_eq_true rfl) dX2_init_2_1 rfl (kU ?_) kN
  refine v_aload_n (pc' := 5) hc_X2_init_2_n1 dX2_init_2_4 rfl rfl 0 rfl ?_
  refine v_gfR (pc' := 8) hc_X2_init_2_n1 ho_X2_init_2_n1 KX2 0 (Nat.le_of_ble_eq_true rfl) q164 (Or.inl rfl) dX2_init_2_5 rfl e (fun v4 _ e => ?_)
  refine v_aload_nN (pc' := 9) hc_X2_init_2_n1 dX2_init_2_8 rfl rfl 1 rfl ?_
  exact nomatch e
theorem w_X2_init_2_n1 (D : va_G) (l : Launch) (hl : l.stackTraces = false) (x0 : Nat) (h : AH) {r : Unit} {hF : AH} (e : f_X2_init_2_n1 x0 h = some (r, hF)) : MetV D l yX2_init_2 (Cond.code yX2_init_2 cX2_init_2 3 (Option.none : Option FieldType)) 5 128 [.ref x0, .null] h hF (oV r) :=
  met_ofF (by decide +kernel) hl (Nat.le_of_ble_eq_true rfl) rfl (v_X2_init_2_n1 D l hl [.ref x0, .null] h x0 h e)
/-! BlockPapers.restoreSnapshot()I  -/
abbrev G_X1_restoreSnapshot (D : va_G) (l : Launch) (as : List Value) (h0 hF : AH) (o : Out) : CT := (D, l, (yX1_restoreSnapshot.cls, yX1_restoreSnapshot, cX1_restoreSnapshot, 1, (Option.some .int), 9, 222, []), as, h0, hF, o)
theorem hc_X1_restoreSnapshot {D : va_G} {l : Launch} {as : List Value} {h0 hF : AH} {o : Out} : gC (G_X1_restoreSnapshot D l as h0 hF o) = cX1_restoreSnapshot := rfl
theorem ho_X1_restoreSnapshot {D : va_G} {l : Launch} {as : List Value} {h0 hF : AH} {o : Out} : gO (G_X1_restoreSnapshot D l as h0 hF o) = "BlockPapers" := rfl
theorem hp_X1_restoreSnapshot {D : va_G} {l : Launch} {as : List Value} {h0 hF : AH} {o : Out} (pc : Nat) : ∀ z ∈ tableOf (gHd (G_X1_restoreSnapshot D l as h0 hF o)), covers z pc = false := hpN
def f_X1_restoreSnapshot_j12 (x0 : Nat) (s0 : Int32) (h : AH) : Option ((Int32 ⊕ Nat) × AH) :=
  bdX (f_X1_requireState s0 h) (fun zq38 h2 =>
    outX h2 zq38
  ) fun r1 h2 =>
  bd2 (nwX h2 1 4 fsX2) fun a5 h4 =>
  bd (gtO h4 0 x0 6) fun r37 => optR r37 (
    bd2 (f_X2_init_2_n1 a5 h4) fun r7 h8 =>
    bd (stF h8 0 x0 0 (.ref a5)) fun h10 =>
    bd (gtR h10 0 x0 1) fun v11 =>
    gd (isC h10 17 v11) <|
    bd2 (f_J3_clear v11 h10) fun r13 h14 =>
    bd (gtR h14 0 x0 0) fun v16 =>
    bd (gtR h14 1 v16 2) fun v17 =>
    gd (isC h14 16 v17) <|
    bd2 (f_J2_size v17 h14) fun r19 h20 =>
    some (.inl r19, h20)
  ) fun v6 =>
  bd2 (f_X2_init_2 a5 v6 h4) fun r22 h23 =>
  bd (stF h23 0 x0 0 (.ref a5)) fun h25 =>
  bd (gtR h25 0 x0 1) fun v26 =>
  gd (isC h25 17 v26) <|
  bd2 (f_J3_clear v26 h25) fun r28 h29 =>
  bd (gtR h29 0 x0 0) fun v31 =>
  bd (gtR h29 1 v31 2) fun v32 =>
  gd (isC h29 16 v32) <|
  bd2 (f_J2_size v32 h29) fun r34 h35 =>
  some (.inl r34, h35)
theorem w_X1_restoreSnapshot_j12 (D : va_G) (l : Launch) (hl : l.stackTraces = false) (as : List Value) (h0 : AH) {r : (Int32 ⊕ Nat)} {hF : AH} (x0 : Nat) (s0 : Int32) (h : AH) (e : f_X1_restoreSnapshot_j12 x0 s0 h = some (r, hF)) : V (G_X1_restoreSnapshot D l as h0 hF ((oX oI) r)) h 12 [(0, .ref x0)] [.int s0] := by
  unfold f_X1_restoreSnapshot_j12 at e
  rcases bdX_of e with ⟨r1, h2, e3, e⟩ | ⟨zq38, h2, e3, e⟩
  · refine k_S (pc' := 15) (n := 1) hc_X1_restoreSnapshot ho_X1_restoreSnapshot (w_X1_requireState D l hl s0 h e3) (wA_l q1935) q1936 q75 q1937 hy_292 ⟨Nat.le_of_ble_eq_true rfl, Nat.le_of_ble_eq_true rfl⟩ rfl rfl (Nat.le_of_ble_eq_true rfl) dX1_restoreSnapshot_12 rfl (kU ?_) kN
    refine v_aload_n (pc' := 16) hc_X1_restoreSnapshot dX1_restoreSnapshot_15 rfl rfl 0 rfl ?_
    refine v_newX (pc' := 19) hc_X1_restoreSnapshot ho_X1_restoreSnapshot KX2 q129 q130 q76 rfl dfX2 dX1_restoreSnapshot_16 rfl e (fun a5 h4 _ e => ?_)
    refine v_dup (pc' := 20) hc_X1_restoreSnapshot dX1_restoreSnapshot_19 rfl rfl ?_
    refine v_aload_n (pc' := 21) hc_X1_restoreSnapshot dX1_restoreSnapshot_20 rfl rfl 0 rfl ?_
    refine v_gfO (pc' := 24) hc_X1_restoreSnapshot ho_X1_restoreSnapshot KX1 6 (Nat.le_of_ble_eq_true rfl) q242 (Or.inl rfl) dX1_restoreSnapshot_21 rfl e (fun _ e => ?_) (fun v6 _ e => ?_)
    · obtain ⟨r7, h8, e9, e⟩ := bd2_of e
      refine k_I (pc' := 27) (n := 1) hc_X1_restoreSnapshot ho_X1_restoreSnapshot (w_X2_init_2_n1 D l hl a5 h4 e9) (wA_l q559) q560 q76 q561 rfl hy_29 ⟨Nat.le_of_ble_eq_true rfl, Nat.le_of_ble_eq_true rfl⟩ rfl rfl (Nat.le_of_ble_eq_true rfl) dX1_restoreSnapshot_24 rfl (kU ?_) kN
      refine v_pf (pc' := 30) hc_X1_restoreSnapshot ho_X1_restoreSnapshot KX1 0 (Nat.le_of_ble_eq_true rfl) q235 (Or.inl rfl) rfl dX1_restoreSnapshot_27 rfl rfl rfl e (fun h10 _ e => ?_)
      refine v_aload_n (pc' := 31) hc_X1_restoreSnapshot dX1_restoreSnapshot_30 rfl rfl 0 rfl ?_
      refine v_gfR (pc' := 34) hc_X1_restoreSnapshot ho_X1_restoreSnapshot KX1 1 (Nat.le_of_ble_eq_true rfl) q236 (Or.inl rfl) dX1_restoreSnapshot_31 rfl e (fun v11 _ e => ?_)
      obtain ⟨c12, e⟩ := gd_of e
      obtain ⟨r13, h14, e15, e⟩ := bd2_of e
      refine k_V (pc' := 37) (ci := 17) (n := 0) hc_X1_restoreSnapshot ho_X1_restoreSnapshot rfl c12 (w_J3_clear D l hl v11 h10 e15) (wA_l q2229) q2230 (wA_l q2231) q80 q2232 hy_355 ⟨Nat.le_of_ble_eq_true rfl, Nat.le_of_ble_eq_true rfl⟩ rfl rfl (Nat.le_of_ble_eq_true rfl) dX1_restoreSnapshot_34 rfl (kU ?_) kN
      refine v_aload_n (pc' := 38) hc_X1_restoreSnapshot dX1_restoreSnapshot_37 rfl rfl 0 rfl ?_
      refine v_gfR (pc' := 41) hc_X1_restoreSnapshot ho_X1_restoreSnapshot KX1 0 (Nat.le_of_ble_eq_true rfl) q235 (Or.inl rfl) dX1_restoreSnapshot_38 rfl e (fun v16 _ e => ?_)
      refine v_gnR (pc' := 44) hc_X1_restoreSnapshot ho_X1_restoreSnapshot KX2 2 (Nat.le_of_ble_eq_true rfl) q170 rfl dX1_restoreSnapshot_41 rfl e (fun v17 _ e => ?_)
      obtain ⟨c18, e⟩ := gd_of e
      obtain ⟨r19, h20, e21, e⟩ := bd2_of e
      refine k_F (pc' := 49) (x := ⟨"java/util/List", "size", "()I"⟩) (y := ⟨"java/util/ArrayList", "size", "()I"⟩) (ci := 16) (n := 0) hc_X1_restoreSnapshot ho_X1_restoreSnapshot rfl c18 (w_J2_size D l hl v17 h14 e21) (wA_l q344) (by decide +kernel) q348 q350 q79 q352 hy_19 ⟨Nat.le_of_ble_eq_true rfl, Nat.le_of_ble_eq_true rfl⟩ rfl rfl (Nat.le_of_ble_eq_true rfl) dX1_restoreSnapshot_44 rfl (kS ?_) kN
      obtain ⟨rfl, rfl⟩ := ret_of e
      exact v_iret hc_X1_restoreSnapshot rfl dX1_restoreSnapshot_49 rfl rfl
    · obtain ⟨r22, h23, e24, e⟩ := bd2_of e
      refine k_I (pc' := 27) (n := 1) hc_X1_restoreSnapshot ho_X1_restoreSnapshot (w_X2_init_2 D l hl a5 v6 h4 e24) (wA_l q559) q560 q76 q561 rfl hy_29 ⟨Nat.le_of_ble_eq_true rfl, Nat.le_of_ble_eq_true rfl⟩ rfl rfl (Nat.le_of_ble_eq_true rfl) dX1_restoreSnapshot_24 rfl (kU ?_) kN
      refine v_pf (pc' := 30) hc_X1_restoreSnapshot ho_X1_restoreSnapshot KX1 0 (Nat.le_of_ble_eq_true rfl) q235 (Or.inl rfl) rfl dX1_restoreSnapshot_27 rfl rfl rfl e (fun h25 _ e => ?_)
      refine v_aload_n (pc' := 31) hc_X1_restoreSnapshot dX1_restoreSnapshot_30 rfl rfl 0 rfl ?_
      refine v_gfR (pc' := 34) hc_X1_restoreSnapshot ho_X1_restoreSnapshot KX1 1 (Nat.le_of_ble_eq_true rfl) q236 (Or.inl rfl) dX1_restoreSnapshot_31 rfl e (fun v26 _ e => ?_)
      obtain ⟨c27, e⟩ := gd_of e
      obtain ⟨r28, h29, e30, e⟩ := bd2_of e
      refine k_V (pc' := 37) (ci := 17) (n := 0) hc_X1_restoreSnapshot ho_X1_restoreSnapshot rfl c27 (w_J3_clear D l hl v26 h25 e30) (wA_l q2229) q2230 (wA_l q2231) q80 q2232 hy_355 ⟨Nat.le_of_ble_eq_true rfl, Nat.le_of_ble_eq_true rfl⟩ rfl rfl (Nat.le_of_ble_eq_true rfl) dX1_restoreSnapshot_34 rfl (kU ?_) kN
      refine v_aload_n (pc' := 38) hc_X1_restoreSnapshot dX1_restoreSnapshot_37 rfl rfl 0 rfl ?_
      refine v_gfR (pc' := 41) hc_X1_restoreSnapshot ho_X1_restoreSnapshot KX1 0 (Nat.le_of_ble_eq_true rfl) q235 (Or.inl rfl) dX1_restoreSnapshot_38 rfl e (fun v31 _ e => ?_)
      refine v_gnR (pc' := 44) hc_X1_restoreSnapshot ho_X1_restoreSnapshot KX2 2 (Nat.le_of_ble_eq_true rfl) q170 rfl dX1_restoreSnapshot_41 rfl e (fun v32 _ e => ?_)
      obtain ⟨c33, e⟩ := gd_of e
      obtain ⟨r34, h35, e36, e⟩ := bd2_of e
      refine k_F (pc' := 49) (x := ⟨"java/util/List", "size", "()I"⟩) (y := ⟨"java/util/ArrayList", "size", "()I"⟩) (ci := 16) (n := 0) hc_X1_restoreSnapshot ho_X1_restoreSnapshot rfl c33 (w_J2_size D l hl v32 h29 e36) (wA_l q344) (by decide +kernel) q348 q350 q79 q352 hy_19 ⟨Nat.le_of_ble_eq_true rfl, Nat.le_of_ble_eq_true rfl⟩ rfl rfl (Nat.le_of_ble_eq_true rfl) dX1_restoreSnapshot_44 rfl (kS ?_) kN
      obtain ⟨rfl, rfl⟩ := ret_of e
      exact v_iret hc_X1_restoreSnapshot rfl dX1_restoreSnapshot_49 rfl rfl
  · refine k_S (pc' := 15) (n := 1) hc_X1_restoreSnapshot ho_X1_restoreSnapshot (w_X1_requireState D l hl s0 h e3) (wA_l q1935) q1936 q75 q1937 hy_292 ⟨Nat.le_of_ble_eq_true rfl, Nat.le_of_ble_eq_true rfl⟩ rfl rfl (Nat.le_of_ble_eq_true rfl) dX1_restoreSnapshot_12 rfl kM (kX ?_)
    exact v_outA (hp_X1_restoreSnapshot _) rfl rfl e
def f_X1_restoreSnapshot (x0 : Nat) (h : AH) : Option ((Int32 ⊕ Nat) × AH) :=
  bd (gtO h 0 x0 6) fun r2 => optR r2 (
    f_X1_restoreSnapshot_j12 x0 (0 : Int32) h
  ) fun v1 =>
  f_X1_restoreSnapshot_j12 x0 (1 : Int32) h
theorem v_X1_restoreSnapshot (D : va_G) (l : Launch) (hl : l.stackTraces = false) (as : List Value) (h0 : AH) {r : (Int32 ⊕ Nat)} {hF : AH} (x0 : Nat) (h : AH) (e : f_X1_restoreSnapshot x0 h = some (r, hF)) : V (G_X1_restoreSnapshot D l as h0 hF ((oX oI) r)) h 0 [(0, .ref x0)] [] := by
  unfold f_X1_restoreSnapshot at e
  refine v_aload_n (pc' := 1) hc_X1_restoreSnapshot dX1_restoreSnapshot_0 rfl rfl 0 rfl ?_
  refine v_gfO (pc' := 4) hc_X1_restoreSnapshot ho_X1_restoreSnapshot KX1 6 (Nat.le_of_ble_eq_true rfl) q242 (Or.inl rfl) dX1_restoreSnapshot_1 rfl e (fun _ e => ?_) (fun v1 _ e => ?_)
  · refine v_ifnullN (x := 0) (pt := 11) hc_X1_restoreSnapshot dX1_restoreSnapshot_4 rfl ?_
    refine v_iconst (pc' := 12) (v := 0) hc_X1_restoreSnapshot dX1_restoreSnapshot_11 rfl rfl ?_
    exact w_X1_restoreSnapshot_j12 D l hl as h0 x0 (0 : Int32) h e
  · refine v_ifnull (pc' := 7) hc_X1_restoreSnapshot dX1_restoreSnapshot_4 rfl ?_
    refine v_iconst (pc' := 8) (v := 1) hc_X1_restoreSnapshot dX1_restoreSnapshot_7 rfl rfl ?_
    refine v_goto (pt := 12) hc_X1_restoreSnapshot dX1_restoreSnapshot_8 rfl ?_
    exact w_X1_restoreSnapshot_j12 D l hl as h0 x0 (1 : Int32) h e
theorem w_X1_restoreSnapshot (D : va_G) (l : Launch) (hl : l.stackTraces = false) (x0 : Nat) (h : AH) {r : (Int32 ⊕ Nat)} {hF : AH} (e : f_X1_restoreSnapshot x0 h = some (r, hF)) : MetV D l yX1_restoreSnapshot (Cond.code yX1_restoreSnapshot cX1_restoreSnapshot 1 (Option.some .int)) 9 222 [.ref x0] h hF ((oX oI) r) :=
  met_ofF (by decide +kernel) hl (Nat.le_of_ble_eq_true rfl) rfl (v_X1_restoreSnapshot D l hl [.ref x0] h x0 h e)
