/-! walks (printed by gen/printall.py) -/
set_option maxRecDepth 100000
set_option maxHeartbeats 1000000
/-! java/util/AbstractCollection.<init>()V  -/
abbrev G_J0_init (D : va_G) (l : Launch) (as : List Value) (h0 hF : AH) (o : Out) : CT := (D, l, (yJ0_init.cls, yJ0_init, cJ0_init, 1, (Option.none : Option FieldType), 1, 48, []), as, h0, hF, o)
theorem hc_J0_init {D : va_G} {l : Launch} {as : List Value} {h0 hF : AH} {o : Out} : gC (G_J0_init D l as h0 hF o) = cJ0_init := rfl
theorem ho_J0_init {D : va_G} {l : Launch} {as : List Value} {h0 hF : AH} {o : Out} : gO (G_J0_init D l as h0 hF o) = "java/util/AbstractCollection" := rfl
theorem hp_J0_init {D : va_G} {l : Launch} {as : List Value} {h0 hF : AH} {o : Out} (pc : Nat) : ∀ z ∈ tableOf (gHd (G_J0_init D l as h0 hF o)), covers z pc = false := hpN
def f_J0_init (x0 : Nat) (h : AH) : Option (Unit × AH) :=
  some ((), h)
theorem v_J0_init (D : va_G) (l : Launch) (hl : l.stackTraces = false) (as : List Value) (h0 : AH) {r : Unit} {hF : AH} (x0 : Nat) (h : AH) (e : f_J0_init x0 h = some (r, hF)) : V (G_J0_init D l as h0 hF (oV r)) h 0 [(0, .ref x0)] [] := by
  unfold f_J0_init at e
  refine v_aload_n (pc' := 1) hc_J0_init dJ0_init_0 rfl rfl 0 rfl ?_
  refine v_oinit (pc' := 4) hc_J0_init ho_J0_init q146 q127 q128 ⟨Nat.le_of_ble_eq_true rfl, Nat.le_of_ble_eq_true rfl⟩ dJ0_init_1 rfl ?_
  obtain ⟨rfl, rfl⟩ := ret_of e
  exact v_ret hc_J0_init rfl dJ0_init_4 rfl rfl
theorem w_J0_init (D : va_G) (l : Launch) (hl : l.stackTraces = false) (x0 : Nat) (h : AH) {r : Unit} {hF : AH} (e : f_J0_init x0 h = some (r, hF)) : MetV D l yJ0_init (Cond.code yJ0_init cJ0_init 1 (Option.none : Option FieldType)) 1 48 [.ref x0] h hF (oV r) :=
  met_ofF (by decide +kernel) hl (Nat.le_of_ble_eq_true rfl) rfl (v_J0_init D l hl [.ref x0] h x0 h e)
/-! java/util/AbstractList.<init>()V  -/
abbrev G_J1_init (D : va_G) (l : Launch) (as : List Value) (h0 hF : AH) (o : Out) : CT := (D, l, (yJ1_init.cls, yJ1_init, cJ1_init, 1, (Option.none : Option FieldType), 2, 68, []), as, h0, hF, o)
theorem hc_J1_init {D : va_G} {l : Launch} {as : List Value} {h0 hF : AH} {o : Out} : gC (G_J1_init D l as h0 hF o) = cJ1_init := rfl
theorem ho_J1_init {D : va_G} {l : Launch} {as : List Value} {h0 hF : AH} {o : Out} : gO (G_J1_init D l as h0 hF o) = "java/util/AbstractList" := rfl
theorem hp_J1_init {D : va_G} {l : Launch} {as : List Value} {h0 hF : AH} {o : Out} (pc : Nat) : ∀ z ∈ tableOf (gHd (G_J1_init D l as h0 hF o)), covers z pc = false := hpN
def f_J1_init (x0 : Nat) (h : AH) : Option (Unit × AH) :=
  bd2 (f_J0_init x0 h) fun r1 h2 =>
  bd (stF h2 16 x0 0 (.int (0 : Int32))) fun h4 =>
  some ((), h4)
theorem v_J1_init (D : va_G) (l : Launch) (hl : l.stackTraces = false) (as : List Value) (h0 : AH) {r : Unit} {hF : AH} (x0 : Nat) (h : AH) (e : f_J1_init x0 h = some (r, hF)) : V (G_J1_init D l as h0 hF (oV r)) h 0 [(0, .ref x0)] [] := by
  unfold f_J1_init at e
  refine v_aload_n (pc' := 1) hc_J1_init dJ1_init_0 rfl rfl 0 rfl ?_
  obtain ⟨r1, h2, e3, e⟩ := bd2_of e
  refine k_I (pc' := 4) (n := 0) hc_J1_init ho_J1_init (w_J0_init D l hl x0 h e3) (wA_l q143) q144 q77 q145 rfl hy_0 ⟨Nat.le_of_ble_eq_true rfl, Nat.le_of_ble_eq_true rfl⟩ rfl rfl (Nat.le_of_ble_eq_true rfl) dJ1_init_1 rfl (kU ?_) kN
  refine v_aload_n (pc' := 5) hc_J1_init dJ1_init_4 rfl rfl 0 rfl ?_
  refine v_iconst (pc' := 6) (v := 0) hc_J1_init dJ1_init_5 rfl rfl ?_
  refine v_pf (pc' := 9) hc_J1_init ho_J1_init KJ2 0 (Nat.le_of_ble_eq_true rfl) q153 (Or.inl rfl) rfl dJ1_init_6 rfl rfl rfl e (fun h4 _ e => ?_)
  obtain ⟨rfl, rfl⟩ := ret_of e
  exact v_ret hc_J1_init rfl dJ1_init_9 rfl rfl
theorem w_J1_init (D : va_G) (l : Launch) (hl : l.stackTraces = false) (x0 : Nat) (h : AH) {r : Unit} {hF : AH} (e : f_J1_init x0 h = some (r, hF)) : MetV D l yJ1_init (Cond.code yJ1_init cJ1_init 1 (Option.none : Option FieldType)) 2 68 [.ref x0] h hF (oV r) :=
  met_ofF (by decide +kernel) hl (Nat.le_of_ble_eq_true rfl) rfl (v_J1_init D l hl [.ref x0] h x0 h e)
/-! java/util/ArrayList.<init>()V  -/
abbrev G_J2_init (D : va_G) (l : Launch) (as : List Value) (h0 hF : AH) (o : Out) : CT := (D, l, (yJ2_init.cls, yJ2_init, cJ2_init, 1, (Option.none : Option FieldType), 3, 88, []), as, h0, hF, o)
theorem hc_J2_init {D : va_G} {l : Launch} {as : List Value} {h0 hF : AH} {o : Out} : gC (G_J2_init D l as h0 hF o) = cJ2_init := rfl
theorem ho_J2_init {D : va_G} {l : Launch} {as : List Value} {h0 hF : AH} {o : Out} : gO (G_J2_init D l as h0 hF o) = "java/util/ArrayList" := rfl
theorem hp_J2_init {D : va_G} {l : Launch} {as : List Value} {h0 hF : AH} {o : Out} (pc : Nat) : ∀ z ∈ tableOf (gHd (G_J2_init D l as h0 hF o)), covers z pc = false := hpN
def f_J2_init (x0 : Nat) (h : AH) : Option (Unit × AH) :=
  bd2 (f_J1_init x0 h) fun r1 h2 =>
  bd (aE h2 0) fun v4 =>
  bd (stF h2 16 x0 1 (.ref v4)) fun h5 =>
  some ((), h5)
theorem v_J2_init (D : va_G) (l : Launch) (hl : l.stackTraces = false) (as : List Value) (h0 : AH) {r : Unit} {hF : AH} (x0 : Nat) (h : AH) (e : f_J2_init x0 h = some (r, hF)) : V (G_J2_init D l as h0 hF (oV r)) h 0 [(0, .ref x0)] [] := by
  unfold f_J2_init at e
  refine v_aload_n (pc' := 1) hc_J2_init dJ2_init_0 rfl rfl 0 rfl ?_
  obtain ⟨r1, h2, e3, e⟩ := bd2_of e
  refine k_I (pc' := 4) (n := 0) hc_J2_init ho_J2_init (w_J1_init D l hl x0 h e3) (wA_l q140) q141 q78 q142 rfl hy_1 ⟨Nat.le_of_ble_eq_true rfl, Nat.le_of_ble_eq_true rfl⟩ rfl rfl (Nat.le_of_ble_eq_true rfl) dJ2_init_1 rfl (kU ?_) kN
  refine v_aload_n (pc' := 5) hc_J2_init dJ2_init_4 rfl rfl 0 rfl ?_
  refine v_getsN (pc' := 8) (j := 0) hc_J2_init ho_J2_init (by decide +kernel) q147 dJ2_init_5 rfl e (fun v4 _ e => ?_)
  refine v_pf (pc' := 11) hc_J2_init ho_J2_init KJ2 1 (Nat.le_of_ble_eq_true rfl) q149 (Or.inl rfl) rfl dJ2_init_8 rfl rfl rfl e (fun h5 _ e => ?_)
  obtain ⟨rfl, rfl⟩ := ret_of e
  exact v_ret hc_J2_init rfl dJ2_init_11 rfl rfl
theorem w_J2_init (D : va_G) (l : Launch) (hl : l.stackTraces = false) (x0 : Nat) (h : AH) {r : Unit} {hF : AH} (e : f_J2_init x0 h = some (r, hF)) : MetV D l yJ2_init (Cond.code yJ2_init cJ2_init 1 (Option.none : Option FieldType)) 3 88 [.ref x0] h hF (oV r) :=
  met_ofF (by decide +kernel) hl (Nat.le_of_ble_eq_true rfl) rfl (v_J2_init D l hl [.ref x0] h x0 h e)
/-! java/util/ArrayDeque.<init>()V  -/
abbrev G_J3_init (D : va_G) (l : Launch) (as : List Value) (h0 hF : AH) (o : Out) : CT := (D, l, (yJ3_init.cls, yJ3_init, cJ3_init, 1, (Option.none : Option FieldType), 2, 68, []), as, h0, hF, o)
theorem hc_J3_init {D : va_G} {l : Launch} {as : List Value} {h0 hF : AH} {o : Out} : gC (G_J3_init D l as h0 hF o) = cJ3_init := rfl
theorem ho_J3_init {D : va_G} {l : Launch} {as : List Value} {h0 hF : AH} {o : Out} : gO (G_J3_init D l as h0 hF o) = "java/util/ArrayDeque" := rfl
theorem hp_J3_init {D : va_G} {l : Launch} {as : List Value} {h0 hF : AH} {o : Out} (pc : Nat) : ∀ z ∈ tableOf (gHd (G_J3_init D l as h0 hF o)), covers z pc = false := hpN
def f_J3_init (x0 : Nat) (h : AH) : Option (Unit × AH) :=
  bd2 (f_J0_init x0 h) fun r1 h2 =>
  bd2 (nwA h2 4 (17 : Int32)) fun a4 h5 =>
  bd (stF h5 17 x0 0 (.ref a4)) fun h6 =>
  some ((), h6)
theorem v_J3_init (D : va_G) (l : Launch) (hl : l.stackTraces = false) (as : List Value) (h0 : AH) {r : Unit} {hF : AH} (x0 : Nat) (h : AH) (e : f_J3_init x0 h = some (r, hF)) : V (G_J3_init D l as h0 hF (oV r)) h 0 [(0, .ref x0)] [] := by
  unfold f_J3_init at e
  refine v_aload_n (pc' := 1) hc_J3_init dJ3_init_0 rfl rfl 0 rfl ?_
  obtain ⟨r1, h2, e3, e⟩ := bd2_of e
  refine k_I (pc' := 4) (n := 0) hc_J3_init ho_J3_init (w_J0_init D l hl x0 h e3) (wA_l q188) q144 q77 q145 rfl hy_0 ⟨Nat.le_of_ble_eq_true rfl, Nat.le_of_ble_eq_true rfl⟩ rfl rfl (Nat.le_of_ble_eq_true rfl) dJ3_init_1 rfl (kU ?_) kN
  refine v_aload_n (pc' := 5) hc_J3_init dJ3_init_4 rfl rfl 0 rfl ?_
  refine v_bipush (pc' := 7) (v := 17) hc_J3_init dJ3_init_5 rfl rfl ?_
  refine v_anew (pc' := 10) hc_J3_init ho_J3_init q189 dJ3_init_7 rfl e (fun a4 h5 _ e => ?_)
  refine v_pf (pc' := 13) hc_J3_init ho_J3_init KJ3 0 (Nat.le_of_ble_eq_true rfl) q191 (Or.inl rfl) rfl dJ3_init_10 rfl rfl rfl e (fun h6 _ e => ?_)
  obtain ⟨rfl, rfl⟩ := ret_of e
  exact v_ret hc_J3_init rfl dJ3_init_13 rfl rfl
theorem w_J3_init (D : va_G) (l : Launch) (hl : l.stackTraces = false) (x0 : Nat) (h : AH) {r : Unit} {hF : AH} (e : f_J3_init x0 h = some (r, hF)) : MetV D l yJ3_init (Cond.code yJ3_init cJ3_init 1 (Option.none : Option FieldType)) 2 68 [.ref x0] h hF (oV r) :=
  met_ofF (by decide +kernel) hl (Nat.le_of_ble_eq_true rfl) rfl (v_J3_init D l hl [.ref x0] h x0 h e)
/-! java/lang/AbstractStringBuilder.<init>(I)V  -/
abbrev G_J4_init (D : va_G) (l : Launch) (as : List Value) (h0 hF : AH) (o : Out) : CT := (D, l, (yJ4_init.cls, yJ4_init, cJ4_init, 2, (Option.none : Option FieldType), 1, 48, []), as, h0, hF, o)
theorem hc_J4_init {D : va_G} {l : Launch} {as : List Value} {h0 hF : AH} {o : Out} : gC (G_J4_init D l as h0 hF o) = cJ4_init := rfl
theorem ho_J4_init {D : va_G} {l : Launch} {as : List Value} {h0 hF : AH} {o : Out} : gO (G_J4_init D l as h0 hF o) = "java/lang/AbstractStringBuilder" := rfl
theorem hp_J4_init {D : va_G} {l : Launch} {as : List Value} {h0 hF : AH} {o : Out} (pc : Nat) : ∀ z ∈ tableOf (gHd (G_J4_init D l as h0 hF o)), covers z pc = false := hpN
def f_J4_init (x0 : Nat) (x1 : Int32) (h : AH) : Option (Unit × AH) :=
  bd2 (nwA h 3 x1) fun a1 h2 =>
  bd (stF h2 18 x0 0 (.ref a1)) fun h3 =>
  bd (stF h3 18 x0 1 (.int (0 : Int32))) fun h4 =>
  some ((), h4)
theorem v_J4_init (D : va_G) (l : Launch) (hl : l.stackTraces = false) (as : List Value) (h0 : AH) {r : Unit} {hF : AH} (x0 : Nat) (x1 : Int32) (h : AH) (e : f_J4_init x0 x1 h = some (r, hF)) : V (G_J4_init D l as h0 hF (oV r)) h 0 [(0, .ref x0), (1, .int x1)] [] := by
  unfold f_J4_init at e
  refine v_aload_n (pc' := 1) hc_J4_init dJ4_init_0 rfl rfl 0 rfl ?_
  refine v_oinit (pc' := 4) hc_J4_init ho_J4_init q209 q127 q128 ⟨Nat.le_of_ble_eq_true rfl, Nat.le_of_ble_eq_true rfl⟩ dJ4_init_1 rfl ?_
  refine v_getsI (pc' := 7) (x := 1) hc_J4_init ho_J4_init (by decide +kernel) q210 dJ4_init_4 rfl ?_
  refine v_if_eqF (pt := 25) (pf := 10) hc_J4_init dJ4_init_7 rfl rfl (by decide) ?_
  refine v_aload_n (pc' := 11) hc_J4_init dJ4_init_10 rfl rfl 0 rfl ?_
  refine v_iload_n (pc' := 12) hc_J4_init dJ4_init_11 rfl rfl 1 rfl ?_
  refine v_newa (pc' := 14) (k := 3) (at0 := .byte) hc_J4_init rfl (by decide) q233 dJ4_init_12 rfl e (fun a1 h2 _ e => ?_)
  refine v_pf (pc' := 17) hc_J4_init ho_J4_init KJ5 0 (Nat.le_of_ble_eq_true rfl) q219 (Or.inl rfl) rfl dJ4_init_14 rfl rfl rfl e (fun h3 _ e => ?_)
  refine v_aload_n (pc' := 18) hc_J4_init dJ4_init_17 rfl rfl 0 rfl ?_
  refine v_iconst (pc' := 19) (v := 0) hc_J4_init dJ4_init_18 rfl rfl ?_
  refine v_pf (pc' := 22) hc_J4_init ho_J4_init KJ5 1 (Nat.le_of_ble_eq_true rfl) q220 (Or.inl rfl) rfl dJ4_init_19 rfl rfl rfl e (fun h4 _ e => ?_)
  refine v_goto (pt := 38) hc_J4_init dJ4_init_22 rfl ?_
  obtain ⟨rfl, rfl⟩ := ret_of e
  exact v_ret hc_J4_init rfl dJ4_init_38 rfl rfl
theorem w_J4_init (D : va_G) (l : Launch) (hl : l.stackTraces = false) (x0 : Nat) (x1 : Int32) (h : AH) {r : Unit} {hF : AH} (e : f_J4_init x0 x1 h = some (r, hF)) : MetV D l yJ4_init (Cond.code yJ4_init cJ4_init 2 (Option.none : Option FieldType)) 1 48 [.ref x0, .int x1] h hF (oV r) :=
  met_ofF (by decide +kernel) hl (Nat.le_of_ble_eq_true rfl) rfl (v_J4_init D l hl [.ref x0, .int x1] h x0 x1 h e)
/-! java/lang/StringBuilder.<init>()V  -/
abbrev G_J5_init (D : va_G) (l : Launch) (as : List Value) (h0 hF : AH) (o : Out) : CT := (D, l, (yJ5_init.cls, yJ5_init, cJ5_init, 1, (Option.none : Option FieldType), 2, 69, []), as, h0, hF, o)
theorem hc_J5_init {D : va_G} {l : Launch} {as : List Value} {h0 hF : AH} {o : Out} : gC (G_J5_init D l as h0 hF o) = cJ5_init := rfl
theorem ho_J5_init {D : va_G} {l : Launch} {as : List Value} {h0 hF : AH} {o : Out} : gO (G_J5_init D l as h0 hF o) = "java/lang/StringBuilder" := rfl
theorem hp_J5_init {D : va_G} {l : Launch} {as : List Value} {h0 hF : AH} {o : Out} (pc : Nat) : ∀ z ∈ tableOf (gHd (G_J5_init D l as h0 hF o)), covers z pc = false := hpN
def f_J5_init (x0 : Nat) (h : AH) : Option (Unit × AH) :=
  bd2 (f_J4_init x0 (16 : Int32) h) fun r1 h2 =>
  some ((), h2)
theorem v_J5_init (D : va_G) (l : Launch) (hl : l.stackTraces = false) (as : List Value) (h0 : AH) {r : Unit} {hF : AH} (x0 : Nat) (h : AH) (e : f_J5_init x0 h = some (r, hF)) : V (G_J5_init D l as h0 hF (oV r)) h 0 [(0, .ref x0)] [] := by
  unfold f_J5_init at e
  refine v_aload_n (pc' := 1) hc_J5_init dJ5_init_0 rfl rfl 0 rfl ?_
  refine v_bipush (pc' := 3) (v := 16) hc_J5_init dJ5_init_1 rfl rfl ?_
  obtain ⟨r1, h2, e3, e⟩ := bd2_of e
  refine k_I (pc' := 6) (n := 1) hc_J5_init ho_J5_init (w_J4_init D l hl x0 (16 : Int32) h e3) (wA_l q206) q207 q81 q208 rfl hy_5 ⟨Nat.le_of_ble_eq_true rfl, Nat.le_of_ble_eq_true rfl⟩ rfl rfl (Nat.le_of_ble_eq_true rfl) dJ5_init_3 rfl (kU ?_) kN
  obtain ⟨rfl, rfl⟩ := ret_of e
  exact v_ret hc_J5_init rfl dJ5_init_6 rfl rfl
theorem w_J5_init (D : va_G) (l : Launch) (hl : l.stackTraces = false) (x0 : Nat) (h : AH) {r : Unit} {hF : AH} (e : f_J5_init x0 h = some (r, hF)) : MetV D l yJ5_init (Cond.code yJ5_init cJ5_init 1 (Option.none : Option FieldType)) 2 69 [.ref x0] h hF (oV r) :=
  met_ofF (by decide +kernel) hl (Nat.le_of_ble_eq_true rfl) rfl (v_J5_init D l hl [.ref x0] h x0 h e)
/-! java/lang/Math.min(II)I  -/
abbrev G_J15_min (D : va_G) (l : Launch) (as : List Value) (h0 hF : AH) (o : Out) : CT := (D, l, (yJ15_min.cls, yJ15_min, cJ15_min, 2, (Option.some .int), 1, 48, []), as, h0, hF, o)
theorem hc_J15_min {D : va_G} {l : Launch} {as : List Value} {h0 hF : AH} {o : Out} : gC (G_J15_min D l as h0 hF o) = cJ15_min := rfl
theorem ho_J15_min {D : va_G} {l : Launch} {as : List Value} {h0 hF : AH} {o : Out} : gO (G_J15_min D l as h0 hF o) = "java/lang/Math" := rfl
theorem hp_J15_min {D : va_G} {l : Launch} {as : List Value} {h0 hF : AH} {o : Out} (pc : Nat) : ∀ z ∈ tableOf (gHd (G_J15_min D l as h0 hF o)), covers z pc = false := hpN
def f_J15_min (x0 : Int32) (x1 : Int32) (h : AH) : Option (Int32 × AH) :=
  if x1 < x0 then (
    some (x1, h)
  ) else (
    some (x0, h)
  )
theorem v_J15_min (D : va_G) (l : Launch) (hl : l.stackTraces = false) (as : List Value) (h0 : AH) {r : Int32} {hF : AH} (x0 : Int32) (x1 : Int32) (h : AH) (e : f_J15_min x0 x1 h = some (r, hF)) : V (G_J15_min D l as h0 hF (oI r)) h 0 [(0, .int x0), (1, .int x1)] [] := by
  unfold f_J15_min at e
  refine v_iload_n (pc' := 1) hc_J15_min dJ15_min_0 rfl rfl 0 rfl ?_
  refine v_iload_n (pc' := 2) hc_J15_min dJ15_min_1 rfl rfl 1 rfl ?_
  refine v_icmp_gt (pt := 9) (pf := 5) hc_J15_min dJ15_min_2 rfl rfl e (fun _ e => ?_) (fun _ e => ?_)
  · refine v_iload_n (pc' := 10) hc_J15_min dJ15_min_9 rfl rfl 1 rfl ?_
    obtain ⟨rfl, rfl⟩ := ret_of e
    exact v_iret hc_J15_min rfl dJ15_min_10 rfl rfl
  · refine v_iload_n (pc' := 6) hc_J15_min dJ15_min_5 rfl rfl 0 rfl ?_
    refine v_goto (pt := 10) hc_J15_min dJ15_min_6 rfl ?_
    obtain ⟨rfl, rfl⟩ := ret_of e
    exact v_iret hc_J15_min rfl dJ15_min_10 rfl rfl
theorem w_J15_min (D : va_G) (l : Launch) (hl : l.stackTraces = false) (x0 : Int32) (x1 : Int32) (h : AH) {r : Int32} {hF : AH} (e : f_J15_min x0 x1 h = some (r, hF)) : MetV D l yJ15_min (Cond.code yJ15_min cJ15_min 2 (Option.some .int)) 1 48 [.int x0, .int x1] h hF (oI r) :=
  met_ofF (by decide +kernel) hl (Nat.le_of_ble_eq_true rfl) rfl (v_J15_min D l hl [.int x0, .int x1] h x0 x1 h e)
/-! java/util/Arrays.copyOf([Ljava/lang/Object;ILjava/lang/Class;)[Ljava/lang/Object;  -/
abbrev G_J8_copyOf_3 (D : va_G) (l : Launch) (as : List Value) (h0 hF : AH) (o : Out) : CT := (D, l, (yJ8_copyOf_3.cls, yJ8_copyOf_3, cJ8_copyOf_3, 4, (Option.some (.array (.object "java/lang/Object"))), 2, 69, []), as, h0, hF, o)
theorem hc_J8_copyOf_3 {D : va_G} {l : Launch} {as : List Value} {h0 hF : AH} {o : Out} : gC (G_J8_copyOf_3 D l as h0 hF o) = cJ8_copyOf_3 := rfl
theorem ho_J8_copyOf_3 {D : va_G} {l : Launch} {as : List Value} {h0 hF : AH} {o : Out} : gO (G_J8_copyOf_3 D l as h0 hF o) = "java/util/Arrays" := rfl
theorem hp_J8_copyOf_3 {D : va_G} {l : Launch} {as : List Value} {h0 hF : AH} {o : Out} (pc : Nat) : ∀ z ∈ tableOf (gHd (G_J8_copyOf_3 D l as h0 hF o)), covers z pc = false := hpN
def f_J8_copyOf_3_j24 (x0 : Nat) (x1 : Int32) (s0 : Nat) (h : AH) : Option (Nat × AH) :=
  bd (aLn h x0) fun v1 =>
  bd2 (f_J15_min v1 x1 h) fun r2 h3 =>
  bd (cpQ h3 x0 (0 : Int32) s0 (0 : Int32) r2) fun h5 =>
  some (s0, h5)
theorem w_J8_copyOf_3_j24 (D : va_G) (l : Launch) (hl : l.stackTraces = false) (as : List Value) (h0 : AH) {r : Nat} {hF : AH} (x0 : Nat) (x1 : Int32) (s0 : Nat) (h : AH) (e : f_J8_copyOf_3_j24 x0 x1 s0 h = some (r, hF)) : V (G_J8_copyOf_3 D l as h0 hF (oR r)) h 24 [(0, .ref x0), (1, .int x1)] [.ref s0] := by
  unfold f_J8_copyOf_3_j24 at e
  refine v_astore_n (pc' := 25) (lv' := [(3, .ref s0), (0, .ref x0), (1, .int x1)]) hc_J8_copyOf_3 dJ8_copyOf_3_24 rfl rfl (Nat.le_of_ble_eq_true rfl) rfl ?_
  refine v_aload_n (pc' := 26) hc_J8_copyOf_3 dJ8_copyOf_3_25 rfl rfl 1 rfl ?_
  refine v_iconst (pc' := 27) (v := 0) hc_J8_copyOf_3 dJ8_copyOf_3_26 rfl rfl ?_
  refine v_aload_n (pc' := 28) hc_J8_copyOf_3 dJ8_copyOf_3_27 rfl rfl 0 rfl ?_
  refine v_iconst (pc' := 29) (v := 0) hc_J8_copyOf_3 dJ8_copyOf_3_28 rfl rfl ?_
  refine v_aload_n (pc' := 30) hc_J8_copyOf_3 dJ8_copyOf_3_29 rfl rfl 1 rfl ?_
  refine v_alen (pc' := 31) hc_J8_copyOf_3 dJ8_copyOf_3_30 rfl e (fun v1 _ e => ?_)
  refine v_iload_n (pc' := 32) hc_J8_copyOf_3 dJ8_copyOf_3_31 rfl rfl 2 rfl ?_
  obtain ⟨r2, h3, e4, e⟩ := bd2_of e
  refine k_S (pc' := 35) (n := 2) hc_J8_copyOf_3 ho_J8_copyOf_3 (w_J15_min D l hl v1 x1 h e4) (wA_l q632) q633 q95 q634 hy_11 ⟨Nat.le_of_ble_eq_true rfl, Nat.le_of_ble_eq_true rfl⟩ rfl rfl (Nat.le_of_ble_eq_true rfl) dJ8_copyOf_3_32 rfl (kS ?_) kN
  refine v_cpQ (pc' := 38) hc_J8_copyOf_3 ho_J8_copyOf_3 q635 q637 q636 q96 ⟨Nat.le_of_ble_eq_true rfl, Nat.le_of_ble_eq_true rfl⟩ dJ8_copyOf_3_35 rfl e (fun h5 _ e => ?_)
  refine v_aload_n (pc' := 39) hc_J8_copyOf_3 dJ8_copyOf_3_38 rfl rfl 0 rfl ?_
  obtain ⟨rfl, rfl⟩ := ret_of e
  exact v_aret hc_J8_copyOf_3 rfl (Or.inr ⟨_, rfl⟩) (Or.inr ⟨_, rfl⟩) dJ8_copyOf_3_39 rfl rfl
def f_J8_copyOf_3 (x0 : Nat) (x1 : Int32) (x2 : Nat) (h : AH) : Option (Nat × AH) :=
  bd (aE h 99) fun v1 =>
  if x2 = v1 then (
    bd2 (nwA h 4 x1) fun a2 h3 =>
    f_J8_copyOf_3_j24 x0 x1 a2 h3
  ) else (
    none
  )
theorem v_J8_copyOf_3 (D : va_G) (l : Launch) (hl : l.stackTraces = false) (as : List Value) (h0 : AH) {r : Nat} {hF : AH} (x0 : Nat) (x1 : Int32) (x2 : Nat) (h : AH) (e : f_J8_copyOf_3 x0 x1 x2 h = some (r, hF)) : V (G_J8_copyOf_3 D l as h0 hF (oR r)) h 0 [(0, .ref x0), (1, .int x1), (2, .ref x2)] [] := by
  unfold f_J8_copyOf_3 at e
  refine v_aload_n (pc' := 1) hc_J8_copyOf_3 dJ8_copyOf_3_0 rfl rfl 2 rfl ?_
  refine v_ldcM (pc' := 3) hc_J8_copyOf_3 ho_J8_copyOf_3 q806 dJ8_copyOf_3_1 rfl e (fun v1 _ e => ?_)
  refine v_acmp_ne (pt := 13) (pf := 6) hc_J8_copyOf_3 dJ8_copyOf_3_3 rfl rfl e (fun _ e => ?_) (fun _ e => ?_)
  · refine v_iload_n (pc' := 7) hc_J8_copyOf_3 dJ8_copyOf_3_6 rfl rfl 1 rfl ?_
    refine v_anew (pc' := 10) hc_J8_copyOf_3 ho_J8_copyOf_3 q807 dJ8_copyOf_3_7 rfl e (fun a2 h3 _ e => ?_)
    refine v_goto (pt := 24) hc_J8_copyOf_3 dJ8_copyOf_3_10 rfl ?_
    refine v_pick [0, 1] rfl ?_
    exact w_J8_copyOf_3_j24 D l hl as h0 x0 x1 a2 h3 e
  · refine v_aload_n (pc' := 14) hc_J8_copyOf_3 dJ8_copyOf_3_13 rfl rfl 2 rfl ?_
    exact nomatch e
theorem w_J8_copyOf_3 (D : va_G) (l : Launch) (hl : l.stackTraces = false) (x0 : Nat) (x1 : Int32) (x2 : Nat) (h : AH) {r : Nat} {hF : AH} (e : f_J8_copyOf_3 x0 x1 x2 h = some (r, hF)) : MetV D l yJ8_copyOf_3 (Cond.code yJ8_copyOf_3 cJ8_copyOf_3 4 (Option.some (.array (.object "java/lang/Object")))) 2 69 [.ref x0, .int x1, .ref x2] h hF (oR r) :=
  met_ofF (by decide +kernel) hl (Nat.le_of_ble_eq_true rfl) rfl (v_J8_copyOf_3 D l hl [.ref x0, .int x1, .ref x2] h x0 x1 x2 h e)
/-! java/util/Arrays.copyOf([Ljava/lang/Object;I)[Ljava/lang/Object;  -/
abbrev G_J8_copyOf_2 (D : va_G) (l : Launch) (as : List Value) (h0 hF : AH) (o : Out) : CT := (D, l, (yJ8_copyOf_2.cls, yJ8_copyOf_2, cJ8_copyOf_2, 2, (Option.some (.array (.object "java/lang/Object"))), 3, 92, []), as, h0, hF, o)
theorem hc_J8_copyOf_2 {D : va_G} {l : Launch} {as : List Value} {h0 hF : AH} {o : Out} : gC (G_J8_copyOf_2 D l as h0 hF o) = cJ8_copyOf_2 := rfl
theorem ho_J8_copyOf_2 {D : va_G} {l : Launch} {as : List Value} {h0 hF : AH} {o : Out} : gO (G_J8_copyOf_2 D l as h0 hF o) = "java/util/Arrays" := rfl
theorem hp_J8_copyOf_2 {D : va_G} {l : Launch} {as : List Value} {h0 hF : AH} {o : Out} (pc : Nat) : ∀ z ∈ tableOf (gHd (G_J8_copyOf_2 D l as h0 hF o)), covers z pc = false := hpN
def f_J8_copyOf_2 (x0 : Nat) (x1 : Int32) (h : AH) : Option (Nat × AH) :=
  gd (isAr h 4 x0) <|
  bd (aE h 99) fun v1 =>
  bd2 (f_J8_copyOf_3 x0 x1 v1 h) fun r3 h4 =>
  some (r3, h4)
theorem v_J8_copyOf_2 (D : va_G) (l : Launch) (hl : l.stackTraces = false) (as : List Value) (h0 : AH) {r : Nat} {hF : AH} (x0 : Nat) (x1 : Int32) (h : AH) (e : f_J8_copyOf_2 x0 x1 h = some (r, hF)) : V (G_J8_copyOf_2 D l as h0 hF (oR r)) h 0 [(0, .ref x0), (1, .int x1)] [] := by
  unfold f_J8_copyOf_2 at e
  refine v_aload_n (pc' := 1) hc_J8_copyOf_2 dJ8_copyOf_2_0 rfl rfl 0 rfl ?_
  refine v_iload_n (pc' := 2) hc_J8_copyOf_2 dJ8_copyOf_2_1 rfl rfl 1 rfl ?_
  refine v_aload_n (pc' := 3) hc_J8_copyOf_2 dJ8_copyOf_2_2 rfl rfl 0 rfl ?_
  obtain ⟨c2, e⟩ := gd_of e
  obtain ⟨n_, c9_, c2⟩ := isAr_of c2
  refine v_getC (pc' := 6) hc_J8_copyOf_2 ho_J8_copyOf_2 q818 q2733 q819 q851 ⟨Nat.le_of_ble_eq_true rfl, Nat.le_of_ble_eq_true rfl⟩ dJ8_copyOf_2_3 rfl c2 e (fun v1 _ e => ?_)
  obtain ⟨r3, h4, e5, e⟩ := bd2_of e
  refine k_S (pc' := 9) (n := 3) hc_J8_copyOf_2 ho_J8_copyOf_2 (w_J8_copyOf_3 D l hl x0 x1 v1 h e5) (wA_l q852) q853 q87 q854 hy_12 ⟨Nat.le_of_ble_eq_true rfl, Nat.le_of_ble_eq_true rfl⟩ rfl rfl (Nat.le_of_ble_eq_true rfl) dJ8_copyOf_2_6 rfl (kS ?_) kN
  obtain ⟨rfl, rfl⟩ := ret_of e
  exact v_aret hc_J8_copyOf_2 rfl (Or.inr ⟨_, rfl⟩) (Or.inr ⟨_, rfl⟩) dJ8_copyOf_2_9 rfl rfl
theorem w_J8_copyOf_2 (D : va_G) (l : Launch) (hl : l.stackTraces = false) (x0 : Nat) (x1 : Int32) (h : AH) {r : Nat} {hF : AH} (e : f_J8_copyOf_2 x0 x1 h = some (r, hF)) : MetV D l yJ8_copyOf_2 (Cond.code yJ8_copyOf_2 cJ8_copyOf_2 2 (Option.some (.array (.object "java/lang/Object")))) 3 92 [.ref x0, .int x1] h hF (oR r) :=
  met_ofF (by decide +kernel) hl (Nat.le_of_ble_eq_true rfl) rfl (v_J8_copyOf_2 D l hl [.ref x0, .int x1] h x0 x1 h e)
/-! java/util/ArrayList.toArray()[Ljava/lang/Object;  -/
abbrev G_J2_toArray (D : va_G) (l : Launch) (as : List Value) (h0 hF : AH) (o : Out) : CT := (D, l, (yJ2_toArray.cls, yJ2_toArray, cJ2_toArray, 1, (Option.some (.array (.object "java/lang/Object"))), 4, 113, []), as, h0, hF, o)
theorem hc_J2_toArray {D : va_G} {l : Launch} {as : List Value} {h0 hF : AH} {o : Out} : gC (G_J2_toArray D l as h0 hF o) = cJ2_toArray := rfl
theorem ho_J2_toArray {D : va_G} {l : Launch} {as : List Value} {h0 hF : AH} {o : Out} : gO (G_J2_toArray D l as h0 hF o) = "java/util/ArrayList" := rfl
theorem hp_J2_toArray {D : va_G} {l : Launch} {as : List Value} {h0 hF : AH} {o : Out} (pc : Nat) : ∀ z ∈ tableOf (gHd (G_J2_toArray D l as h0 hF o)), covers z pc = false := hpN
def f_J2_toArray (x0 : Nat) (h : AH) : Option (Nat × AH) :=
  bd (gtR h 16 x0 1) fun v1 =>
  bd (gtI h 16 x0 2) fun v2 =>
  bd2 (f_J8_copyOf_2 v1 v2 h) fun r3 h4 =>
  some (r3, h4)
theorem v_J2_toArray (D : va_G) (l : Launch) (hl : l.stackTraces = false) (as : List Value) (h0 : AH) {r : Nat} {hF : AH} (x0 : Nat) (h : AH) (e : f_J2_toArray x0 h = some (r, hF)) : V (G_J2_toArray D l as h0 hF (oR r)) h 0 [(0, .ref x0)] [] := by
  unfold f_J2_toArray at e
  refine v_aload_n (pc' := 1) hc_J2_toArray dJ2_toArray_0 rfl rfl 0 rfl ?_
  refine v_gfR (pc' := 4) hc_J2_toArray ho_J2_toArray KJ2 1 (Nat.le_of_ble_eq_true rfl) q149 (Or.inl rfl) dJ2_toArray_1 rfl e (fun v1 _ e => ?_)
  refine v_aload_n (pc' := 5) hc_J2_toArray dJ2_toArray_4 rfl rfl 0 rfl ?_
  refine v_gfI (pc' := 8) hc_J2_toArray ho_J2_toArray KJ2 2 (Nat.le_of_ble_eq_true rfl) q152 (Or.inl rfl) dJ2_toArray_5 rfl e (fun v2 _ e => ?_)
  obtain ⟨r3, h4, e5, e⟩ := bd2_of e
  refine k_S (pc' := 11) (n := 2) hc_J2_toArray ho_J2_toArray (w_J8_copyOf_2 D l hl v1 v2 h e5) (wA_l q815) q816 q87 q817 hy_13 ⟨Nat.le_of_ble_eq_true rfl, Nat.le_of_ble_eq_true rfl⟩ rfl rfl (Nat.le_of_ble_eq_true rfl) dJ2_toArray_8 rfl (kS ?_) kN
  obtain ⟨rfl, rfl⟩ := ret_of e
  exact v_aret hc_J2_toArray rfl (Or.inr ⟨_, rfl⟩) (Or.inr ⟨_, rfl⟩) dJ2_toArray_11 rfl rfl
theorem w_J2_toArray (D : va_G) (l : Launch) (hl : l.stackTraces = false) (x0 : Nat) (h : AH) {r : Nat} {hF : AH} (e : f_J2_toArray x0 h = some (r, hF)) : MetV D l yJ2_toArray (Cond.code yJ2_toArray cJ2_toArray 1 (Option.some (.array (.object "java/lang/Object")))) 4 113 [.ref x0] h hF (oR r) :=
  met_ofF (by decide +kernel) hl (Nat.le_of_ble_eq_true rfl) rfl (v_J2_toArray D l hl [.ref x0] h x0 h e)
/-! java/lang/Math.max(II)I  -/
abbrev G_J15_max (D : va_G) (l : Launch) (as : List Value) (h0 hF : AH) (o : Out) : CT := (D, l, (yJ15_max.cls, yJ15_max, cJ15_max, 2, (Option.some .int), 1, 48, []), as, h0, hF, o)
theorem hc_J15_max {D : va_G} {l : Launch} {as : List Value} {h0 hF : AH} {o : Out} : gC (G_J15_max D l as h0 hF o) = cJ15_max := rfl
theorem ho_J15_max {D : va_G} {l : Launch} {as : List Value} {h0 hF : AH} {o : Out} : gO (G_J15_max D l as h0 hF o) = "java/lang/Math" := rfl
theorem hp_J15_max {D : va_G} {l : Launch} {as : List Value} {h0 hF : AH} {o : Out} (pc : Nat) : ∀ z ∈ tableOf (gHd (G_J15_max D l as h0 hF o)), covers z pc = false := hpN
def f_J15_max (x0 : Int32) (x1 : Int32) (h : AH) : Option (Int32 × AH) :=
  if x0 < x1 then (
    some (x1, h)
  ) else (
    some (x0, h)
  )
theorem v_J15_max (D : va_G) (l : Launch) (hl : l.stackTraces = false) (as : List Value) (h0 : AH) {r : Int32} {hF : AH} (x0 : Int32) (x1 : Int32) (h : AH) (e : f_J15_max x0 x1 h = some (r, hF)) : V (G_J15_max D l as h0 hF (oI r)) h 0 [(0, .int x0), (1, .int x1)] [] := by
  unfold f_J15_max at e
  refine v_iload_n (pc' := 1) hc_J15_max dJ15_max_0 rfl rfl 0 rfl ?_
  refine v_iload_n (pc' := 2) hc_J15_max dJ15_max_1 rfl rfl 1 rfl ?_
  refine v_icmp_lt (pt := 9) (pf := 5) hc_J15_max dJ15_max_2 rfl rfl e (fun _ e => ?_) (fun _ e => ?_)
  · refine v_iload_n (pc' := 10) hc_J15_max dJ15_max_9 rfl rfl 1 rfl ?_
    obtain ⟨rfl, rfl⟩ := ret_of e
    exact v_iret hc_J15_max rfl dJ15_max_10 rfl rfl
  · refine v_iload_n (pc' := 6) hc_J15_max dJ15_max_5 rfl rfl 0 rfl ?_
    refine v_goto (pt := 10) hc_J15_max dJ15_max_6 rfl ?_
    obtain ⟨rfl, rfl⟩ := ret_of e
    exact v_iret hc_J15_max rfl dJ15_max_10 rfl rfl
theorem w_J15_max (D : va_G) (l : Launch) (hl : l.stackTraces = false) (x0 : Int32) (x1 : Int32) (h : AH) {r : Int32} {hF : AH} (e : f_J15_max x0 x1 h = some (r, hF)) : MetV D l yJ15_max (Cond.code yJ15_max cJ15_max 2 (Option.some .int)) 1 48 [.int x0, .int x1] h hF (oI r) :=
  met_ofF (by decide +kernel) hl (Nat.le_of_ble_eq_true rfl) rfl (v_J15_max D l hl [.int x0, .int x1] h x0 x1 h e)
/-! jdk/internal/util/ArraysSupport.newLength(III)I  -/
abbrev G_J14_newLength (D : va_G) (l : Launch) (as : List Value) (h0 hF : AH) (o : Out) : CT := (D, l, (yJ14_newLength.cls, yJ14_newLength, cJ14_newLength, 4, (Option.some .int), 2, 69, []), as, h0, hF, o)
theorem hc_J14_newLength {D : va_G} {l : Launch} {as : List Value} {h0 hF : AH} {o : Out} : gC (G_J14_newLength D l as h0 hF o) = cJ14_newLength := rfl
theorem ho_J14_newLength {D : va_G} {l : Launch} {as : List Value} {h0 hF : AH} {o : Out} : gO (G_J14_newLength D l as h0 hF o) = "jdk/internal/util/ArraysSupport" := rfl
theorem hp_J14_newLength {D : va_G} {l : Launch} {as : List Value} {h0 hF : AH} {o : Out} (pc : Nat) : ∀ z ∈ tableOf (gHd (G_J14_newLength D l as h0 hF o)), covers z pc = false := hpN
def f_J14_newLength (x0 : Int32) (x1 : Int32) (x2 : Int32) (h : AH) : Option (Int32 × AH) :=
  bd2 (f_J15_max x1 x2 h) fun r1 h2 =>
  if (x0 + r1) ≤ (0 : Int32) then (
    none
  ) else (
    if (2147483639 : Int32) < (x0 + r1) then (
      none
    ) else (
      some ((x0 + r1), h2)
    )
  )
theorem v_J14_newLength (D : va_G) (l : Launch) (hl : l.stackTraces = false) (as : List Value) (h0 : AH) {r : Int32} {hF : AH} (x0 : Int32) (x1 : Int32) (x2 : Int32) (h : AH) (e : f_J14_newLength x0 x1 x2 h = some (r, hF)) : V (G_J14_newLength D l as h0 hF (oI r)) h 0 [(0, .int x0), (1, .int x1), (2, .int x2)] [] := by
  unfold f_J14_newLength at e
  refine v_iload_n (pc' := 1) hc_J14_newLength dJ14_newLength_0 rfl rfl 0 rfl ?_
  refine v_iload_n (pc' := 2) hc_J14_newLength dJ14_newLength_1 rfl rfl 1 rfl ?_
  refine v_iload_n (pc' := 3) hc_J14_newLength dJ14_newLength_2 rfl rfl 2 rfl ?_
  obtain ⟨r1, h2, e3, e⟩ := bd2_of e
  refine k_S (pc' := 6) (n := 2) hc_J14_newLength ho_J14_newLength (w_J15_max D l hl x1 x2 h e3) (wA_l q614) q615 q95 q616 hy_15 ⟨Nat.le_of_ble_eq_true rfl, Nat.le_of_ble_eq_true rfl⟩ rfl rfl (Nat.le_of_ble_eq_true rfl) dJ14_newLength_3 rfl (kS ?_) kN
  refine v_iadd (pc' := 7) hc_J14_newLength dJ14_newLength_6 rfl ?_
  refine v_istore_n (pc' := 8) (lv' := [(3, .int (x0 + r1)), (0, .int x0), (1, .int x1), (2, .int x2)]) hc_J14_newLength dJ14_newLength_7 rfl rfl (Nat.le_of_ble_eq_true rfl) rfl ?_
  refine v_iconst (pc' := 9) (v := 0) hc_J14_newLength dJ14_newLength_8 rfl rfl ?_
  refine v_iload_n (pc' := 10) hc_J14_newLength dJ14_newLength_9 rfl rfl 0 rfl ?_
  refine v_icmp_ge (pt := 21) (pf := 13) hc_J14_newLength dJ14_newLength_10 rfl rfl e (fun _ e => ?_) (fun _ e => ?_)
  · refine v_iload_n (pc' := 22) hc_J14_newLength dJ14_newLength_21 rfl rfl 1 rfl ?_
    refine v_iload_n (pc' := 23) hc_J14_newLength dJ14_newLength_22 rfl rfl 2 rfl ?_
    exact nomatch e
  · refine v_iload_n (pc' := 14) hc_J14_newLength dJ14_newLength_13 rfl rfl 0 rfl ?_
    refine v_ldcI (pc' := 16) (x := 2147483639) hc_J14_newLength ho_J14_newLength q617 dJ14_newLength_14 rfl ?_
    refine v_icmp_gt (pt := 21) (pf := 19) hc_J14_newLength dJ14_newLength_16 rfl rfl e (fun _ e => ?_) (fun _ e => ?_)
    · refine v_iload_n (pc' := 22) hc_J14_newLength dJ14_newLength_21 rfl rfl 1 rfl ?_
      refine v_iload_n (pc' := 23) hc_J14_newLength dJ14_newLength_22 rfl rfl 2 rfl ?_
      exact nomatch e
    · refine v_iload_n (pc' := 20) hc_J14_newLength dJ14_newLength_19 rfl rfl 0 rfl ?_
      obtain ⟨rfl, rfl⟩ := ret_of e
      exact v_iret hc_J14_newLength rfl dJ14_newLength_20 rfl rfl
theorem w_J14_newLength (D : va_G) (l : Launch) (hl : l.stackTraces = false) (x0 : Int32) (x1 : Int32) (x2 : Int32) (h : AH) {r : Int32} {hF : AH} (e : f_J14_newLength x0 x1 x2 h = some (r, hF)) : MetV D l yJ14_newLength (Cond.code yJ14_newLength cJ14_newLength 4 (Option.some .int)) 2 69 [.int x0, .int x1, .int x2] h hF (oI r) :=
  met_ofF (by decide +kernel) hl (Nat.le_of_ble_eq_true rfl) rfl (v_J14_newLength D l hl [.int x0, .int x1, .int x2] h x0 x1 x2 h e)
/-! java/util/ArrayList.grow(I)[Ljava/lang/Object;  -/
abbrev G_J2_grow (D : va_G) (l : Launch) (as : List Value) (h0 hF : AH) (o : Out) : CT := (D, l, (yJ2_grow.cls, yJ2_grow, cJ2_grow, 4, (Option.some (.array (.object "java/lang/Object"))), 4, 113, []), as, h0, hF, o)
theorem hc_J2_grow {D : va_G} {l : Launch} {as : List Value} {h0 hF : AH} {o : Out} : gC (G_J2_grow D l as h0 hF o) = cJ2_grow := rfl
theorem ho_J2_grow {D : va_G} {l : Launch} {as : List Value} {h0 hF : AH} {o : Out} : gO (G_J2_grow D l as h0 hF o) = "java/util/ArrayList" := rfl
theorem hp_J2_grow {D : va_G} {l : Launch} {as : List Value} {h0 hF : AH} {o : Out} (pc : Nat) : ∀ z ∈ tableOf (gHd (G_J2_grow D l as h0 hF o)), covers z pc = false := hpN
def f_J2_grow_j20 (x0 : Nat) (x1 : Int32) (x2 : Int32) (h : AH) : Option (Nat × AH) :=
  bd2 (f_J14_newLength x2 (x1 - x2) (x2 >>> ((1 : Int32) &&& 31)) h) fun r1 h2 =>
  bd (gtR h2 16 x0 1) fun v4 =>
  bd2 (f_J8_copyOf_2 v4 r1 h2) fun r5 h6 =>
  bd (stF h6 16 x0 1 (.ref r5)) fun h8 =>
  some (r5, h8)
theorem w_J2_grow_j20 (D : va_G) (l : Launch) (hl : l.stackTraces = false) (as : List Value) (h0 : AH) {r : Nat} {hF : AH} (x0 : Nat) (x1 : Int32) (x2 : Int32) (h : AH) (e : f_J2_grow_j20 x0 x1 x2 h = some (r, hF)) : V (G_J2_grow D l as h0 hF (oR r)) h 20 [(0, .ref x0), (1, .int x1), (2, .int x2)] [] := by
  unfold f_J2_grow_j20 at e
  refine v_iload_n (pc' := 21) hc_J2_grow dJ2_grow_20 rfl rfl 2 rfl ?_
  refine v_iload_n (pc' := 22) hc_J2_grow dJ2_grow_21 rfl rfl 1 rfl ?_
  refine v_iload_n (pc' := 23) hc_J2_grow dJ2_grow_22 rfl rfl 2 rfl ?_
  refine v_isub (pc' := 24) hc_J2_grow dJ2_grow_23 rfl ?_
  refine v_iload_n (pc' := 25) hc_J2_grow dJ2_grow_24 rfl rfl 2 rfl ?_
  refine v_iconst (pc' := 26) (v := 1) hc_J2_grow dJ2_grow_25 rfl rfl ?_
  refine v_ishr (pc' := 27) hc_J2_grow dJ2_grow_26 rfl ?_
  obtain ⟨r1, h2, e3, e⟩ := bd2_of e
  refine k_S (pc' := 30) (n := 3) hc_J2_grow ho_J2_grow (w_J14_newLength D l hl x2 (x1 - x2) (x2 >>> ((1 : Int32) &&& 31)) h e3) (wA_l q859) q612 q94 q613 hy_16 ⟨Nat.le_of_ble_eq_true rfl, Nat.le_of_ble_eq_true rfl⟩ rfl rfl (Nat.le_of_ble_eq_true rfl) dJ2_grow_27 rfl (kS ?_) kN
  refine v_istore_n (pc' := 31) (lv' := [(3, .int r1), (0, .ref x0), (1, .int x1), (2, .int x2)]) hc_J2_grow dJ2_grow_30 rfl rfl (Nat.le_of_ble_eq_true rfl) rfl ?_
  refine v_aload_n (pc' := 32) hc_J2_grow dJ2_grow_31 rfl rfl 1 rfl ?_
  refine v_aload_n (pc' := 33) hc_J2_grow dJ2_grow_32 rfl rfl 1 rfl ?_
  refine v_gfR (pc' := 36) hc_J2_grow ho_J2_grow KJ2 1 (Nat.le_of_ble_eq_true rfl) q149 (Or.inl rfl) dJ2_grow_33 rfl e (fun v4 _ e => ?_)
  refine v_iload_n (pc' := 37) hc_J2_grow dJ2_grow_36 rfl rfl 0 rfl ?_
  obtain ⟨r5, h6, e7, e⟩ := bd2_of e
  refine k_S (pc' := 40) (n := 2) hc_J2_grow ho_J2_grow (w_J8_copyOf_2 D l hl v4 r1 h2 e7) (wA_l q815) q816 q87 q817 hy_13 ⟨Nat.le_of_ble_eq_true rfl, Nat.le_of_ble_eq_true rfl⟩ rfl rfl (Nat.le_of_ble_eq_true rfl) dJ2_grow_37 rfl (kS ?_) kN
  refine v_dup_x1 (pc' := 41) hc_J2_grow dJ2_grow_40 rfl rfl rfl ?_
  refine v_pf (pc' := 44) hc_J2_grow ho_J2_grow KJ2 1 (Nat.le_of_ble_eq_true rfl) q149 (Or.inl rfl) rfl dJ2_grow_41 rfl rfl rfl e (fun h8 _ e => ?_)
  obtain ⟨rfl, rfl⟩ := ret_of e
  exact v_aret hc_J2_grow rfl (Or.inr ⟨_, rfl⟩) (Or.inr ⟨_, rfl⟩) dJ2_grow_44 rfl rfl
def f_J2_grow (x0 : Nat) (x1 : Int32) (h : AH) : Option (Nat × AH) :=
  bd (gtR h 16 x0 1) fun v1 =>
  bd (aLn h v1) fun v2 =>
  if 0 < v2 then (
    f_J2_grow_j20 x0 x1 v2 h
  ) else (
    bd (gtR h 16 x0 1) fun v3 =>
    bd (aE h 0) fun v4 =>
    if v3 = v4 then (
      bd2 (f_J15_max (10 : Int32) x1 h) fun r5 h6 =>
      bd2 (nwA h6 4 r5) fun a8 h9 =>
      bd (stF h9 16 x0 1 (.ref a8)) fun h10 =>
      some (a8, h10)
    ) else (
      f_J2_grow_j20 x0 x1 v2 h
    )
  )
theorem v_J2_grow (D : va_G) (l : Launch) (hl : l.stackTraces = false) (as : List Value) (h0 : AH) {r : Nat} {hF : AH} (x0 : Nat) (x1 : Int32) (h : AH) (e : f_J2_grow x0 x1 h = some (r, hF)) : V (G_J2_grow D l as h0 hF (oR r)) h 0 [(0, .ref x0), (1, .int x1)] [] := by
  unfold f_J2_grow at e
  refine v_aload_n (pc' := 1) hc_J2_grow dJ2_grow_0 rfl rfl 0 rfl ?_
  refine v_gfR (pc' := 4) hc_J2_grow ho_J2_grow KJ2 1 (Nat.le_of_ble_eq_true rfl) q149 (Or.inl rfl) dJ2_grow_1 rfl e (fun v1 _ e => ?_)
  refine v_alen (pc' := 5) hc_J2_grow dJ2_grow_4 rfl e (fun v2 _ e => ?_)
  refine v_istore_n (pc' := 6) (lv' := [(2, .int v2), (0, .ref x0), (1, .int x1)]) hc_J2_grow dJ2_grow_5 rfl rfl (Nat.le_of_ble_eq_true rfl) rfl ?_
  refine v_iload_n (pc' := 7) hc_J2_grow dJ2_grow_6 rfl rfl 0 rfl ?_
  refine v_if_gt (pt := 20) (pf := 10) hc_J2_grow dJ2_grow_7 rfl rfl e (fun _ e => ?_) (fun _ e => ?_)
  · refine v_pick [1, 2, 0] rfl ?_
    exact w_J2_grow_j20 D l hl as h0 x0 x1 v2 h e
  · refine v_aload_n (pc' := 11) hc_J2_grow dJ2_grow_10 rfl rfl 1 rfl ?_
    refine v_gfR (pc' := 14) hc_J2_grow ho_J2_grow KJ2 1 (Nat.le_of_ble_eq_true rfl) q149 (Or.inl rfl) dJ2_grow_11 rfl e (fun v3 _ e => ?_)
    refine v_getsN (pc' := 17) (j := 0) hc_J2_grow ho_J2_grow (by decide +kernel) q147 dJ2_grow_14 rfl e (fun v4 _ e => ?_)
    refine v_acmp_eq (pt := 45) (pf := 20) hc_J2_grow dJ2_grow_17 rfl rfl e (fun _ e => ?_) (fun _ e => ?_)
    · refine v_aload_n (pc' := 46) hc_J2_grow dJ2_grow_45 rfl rfl 1 rfl ?_
      refine v_bipush (pc' := 48) (v := 10) hc_J2_grow dJ2_grow_46 rfl rfl ?_
      refine v_iload_n (pc' := 49) hc_J2_grow dJ2_grow_48 rfl rfl 2 rfl ?_
      obtain ⟨r5, h6, e7, e⟩ := bd2_of e
      refine k_S (pc' := 52) (n := 2) hc_J2_grow ho_J2_grow (w_J15_max D l hl (10 : Int32) x1 h e7) (wA_l q860) q615 q95 q616 hy_15 ⟨Nat.le_of_ble_eq_true rfl, Nat.le_of_ble_eq_true rfl⟩ rfl rfl (Nat.le_of_ble_eq_true rfl) dJ2_grow_49 rfl (kS ?_) kN
      refine v_anew (pc' := 55) hc_J2_grow ho_J2_grow q861 dJ2_grow_52 rfl e (fun a8 h9 _ e => ?_)
      refine v_dup_x1 (pc' := 56) hc_J2_grow dJ2_grow_55 rfl rfl rfl ?_
      refine v_pf (pc' := 59) hc_J2_grow ho_J2_grow KJ2 1 (Nat.le_of_ble_eq_true rfl) q149 (Or.inl rfl) rfl dJ2_grow_56 rfl rfl rfl e (fun h10 _ e => ?_)
      obtain ⟨rfl, rfl⟩ := ret_of e
      exact v_aret hc_J2_grow rfl (Or.inr ⟨_, rfl⟩) (Or.inr ⟨_, rfl⟩) dJ2_grow_59 rfl rfl
    · refine v_pick [1, 2, 0] rfl ?_
      exact w_J2_grow_j20 D l hl as h0 x0 x1 v2 h e
theorem w_J2_grow (D : va_G) (l : Launch) (hl : l.stackTraces = false) (x0 : Nat) (x1 : Int32) (h : AH) {r : Nat} {hF : AH} (e : f_J2_grow x0 x1 h = some (r, hF)) : MetV D l yJ2_grow (Cond.code yJ2_grow cJ2_grow 4 (Option.some (.array (.object "java/lang/Object")))) 4 113 [.ref x0, .int x1] h hF (oR r) :=
  met_ofF (by decide +kernel) hl (Nat.le_of_ble_eq_true rfl) rfl (v_J2_grow D l hl [.ref x0, .int x1] h x0 x1 h e)
/-! java/util/ArrayList.addAll(Ljava/util/Collection;)Z  -/
abbrev G_J2_addAll (D : va_G) (l : Launch) (as : List Value) (h0 hF : AH) (o : Out) : CT := (D, l, (yJ2_addAll.cls, yJ2_addAll, cJ2_addAll, 6, (Option.some .boolean), 5, 136, []), as, h0, hF, o)
theorem hc_J2_addAll {D : va_G} {l : Launch} {as : List Value} {h0 hF : AH} {o : Out} : gC (G_J2_addAll D l as h0 hF o) = cJ2_addAll := rfl
theorem ho_J2_addAll {D : va_G} {l : Launch} {as : List Value} {h0 hF : AH} {o : Out} : gO (G_J2_addAll D l as h0 hF o) = "java/util/ArrayList" := rfl
theorem hp_J2_addAll {D : va_G} {l : Launch} {as : List Value} {h0 hF : AH} {o : Out} (pc : Nat) : ∀ z ∈ tableOf (gHd (G_J2_addAll D l as h0 hF o)), covers z pc = false := hpN
def f_J2_addAll_j56 (x0 : Nat) (x2 : Nat) (x3 : Int32) (x4 : Nat) (x5 : Int32) (h : AH) : Option (Int32 × AH) :=
  bd (cpQ h x2 (0 : Int32) x4 x5 x3) fun h1 =>
  bd (stF h1 16 x0 2 (.int (x5 + x3))) fun h2 =>
  some ((1 : Int32), h2)
theorem w_J2_addAll_j56 (D : va_G) (l : Launch) (hl : l.stackTraces = false) (as : List Value) (h0 : AH) {r : Int32} {hF : AH} (x0 : Nat) (x2 : Nat) (x3 : Int32) (x4 : Nat) (x5 : Int32) (h : AH) (e : f_J2_addAll_j56 x0 x2 x3 x4 x5 h = some (r, hF)) : V (G_J2_addAll D l as h0 hF (oI r)) h 56 [(0, .ref x0), (2, .ref x2), (3, .int x3), (4, .ref x4), (5, .int x5)] [] := by
  unfold f_J2_addAll_j56 at e
  refine v_aload_n (pc' := 57) hc_J2_addAll dJ2_addAll_56 rfl rfl 1 rfl ?_
  refine v_iconst (pc' := 58) (v := 0) hc_J2_addAll dJ2_addAll_57 rfl rfl ?_
  refine v_aload (pc' := 60) hc_J2_addAll dJ2_addAll_58 rfl 3 rfl ?_
  refine v_iload (pc' := 62) hc_J2_addAll dJ2_addAll_60 rfl 4 rfl ?_
  refine v_iload_n (pc' := 63) hc_J2_addAll dJ2_addAll_62 rfl rfl 2 rfl ?_
  refine v_cpQ (pc' := 66) hc_J2_addAll ho_J2_addAll q862 q637 q636 q96 ⟨Nat.le_of_ble_eq_true rfl, Nat.le_of_ble_eq_true rfl⟩ dJ2_addAll_63 rfl e (fun h1 _ e => ?_)
  refine v_aload_n (pc' := 67) hc_J2_addAll dJ2_addAll_66 rfl rfl 0 rfl ?_
  refine v_iload (pc' := 69) hc_J2_addAll dJ2_addAll_67 rfl 4 rfl ?_
  refine v_iload_n (pc' := 70) hc_J2_addAll dJ2_addAll_69 rfl rfl 2 rfl ?_
  refine v_iadd (pc' := 71) hc_J2_addAll dJ2_addAll_70 rfl ?_
  refine v_pf (pc' := 74) hc_J2_addAll ho_J2_addAll KJ2 2 (Nat.le_of_ble_eq_true rfl) q152 (Or.inl rfl) rfl dJ2_addAll_71 rfl rfl rfl e (fun h2 _ e => ?_)
  refine v_iconst (pc' := 75) (v := 1) hc_J2_addAll dJ2_addAll_74 rfl rfl ?_
  obtain ⟨rfl, rfl⟩ := ret_of e
  exact v_zret hc_J2_addAll rfl (ft := .boolean) rfl dJ2_addAll_75 rfl rfl
def f_J2_addAll (x0 : Nat) (x1 : Nat) (h : AH) : Option (Int32 × AH) :=
  gd (isC h 16 x1) <|
  bd2 (f_J2_toArray x1 h) fun r2 h3 =>
  bd (gtI h3 16 x0 0) fun v5 =>
  bd (stF h3 16 x0 0 (.int (v5 + (1 : Int32)))) fun h6 =>
  bd (aLn h6 r2) fun v7 =>
  if v7 = 0 then (
    some ((0 : Int32), h6)
  ) else (
    bd (gtR h6 16 x0 1) fun v8 =>
    bd (aLn h6 v8) fun v9 =>
    bd (gtI h6 16 x0 2) fun v10 =>
    if v7 ≤ (v9 - v10) then (
      f_J2_addAll_j56 x0 r2 v7 v8 v10 h6
    ) else (
      gd (isC h6 16 x0) <|
      bd2 (f_J2_grow x0 (v10 + v7) h6) fun r12 h13 =>
      f_J2_addAll_j56 x0 r2 v7 r12 v10 h13
    )
  )
theorem v_J2_addAll (D : va_G) (l : Launch) (hl : l.stackTraces = false) (as : List Value) (h0 : AH) {r : Int32} {hF : AH} (x0 : Nat) (x1 : Nat) (h : AH) (e : f_J2_addAll x0 x1 h = some (r, hF)) : V (G_J2_addAll D l as h0 hF (oI r)) h 0 [(0, .ref x0), (1, .ref x1)] [] := by
  unfold f_J2_addAll at e
  refine v_aload_n (pc' := 1) hc_J2_addAll dJ2_addAll_0 rfl rfl 1 rfl ?_
  obtain ⟨c1, e⟩ := gd_of e
  obtain ⟨r2, h3, e4, e⟩ := bd2_of e
  refine k_F (pc' := 6) (x := ⟨"java/util/Collection", "toArray", "()[Ljava/lang/Object;"⟩) (y := ⟨"java/util/ArrayList", "toArray", "()[Ljava/lang/Object;"⟩) (ci := 16) (n := 0) hc_J2_addAll ho_J2_addAll rfl c1 (w_J2_toArray D l hl x1 h e4) (wA_l q573) (by decide +kernel) q810 q812 q79 q814 hy_14 ⟨Nat.le_of_ble_eq_true rfl, Nat.le_of_ble_eq_true rfl⟩ rfl rfl (Nat.le_of_ble_eq_true rfl) dJ2_addAll_1 rfl (kS ?_) kN
  refine v_astore_n (pc' := 7) (lv' := [(2, .ref r2), (0, .ref x0), (1, .ref x1)]) hc_J2_addAll dJ2_addAll_6 rfl rfl (Nat.le_of_ble_eq_true rfl) rfl ?_
  refine v_aload_n (pc' := 8) hc_J2_addAll dJ2_addAll_7 rfl rfl 1 rfl ?_
  refine v_dup (pc' := 9) hc_J2_addAll dJ2_addAll_8 rfl rfl ?_
  refine v_gfI (pc' := 12) hc_J2_addAll ho_J2_addAll KJ2 0 (Nat.le_of_ble_eq_true rfl) q156 (Or.inr q155) dJ2_addAll_9 rfl e (fun v5 _ e => ?_)
  refine v_iconst (pc' := 13) (v := 1) hc_J2_addAll dJ2_addAll_12 rfl rfl ?_
  refine v_iadd (pc' := 14) hc_J2_addAll dJ2_addAll_13 rfl ?_
  refine v_pf (pc' := 17) hc_J2_addAll ho_J2_addAll KJ2 0 (Nat.le_of_ble_eq_true rfl) q156 (Or.inr q155) rfl dJ2_addAll_14 rfl rfl rfl e (fun h6 _ e => ?_)
  refine v_aload_n (pc' := 18) hc_J2_addAll dJ2_addAll_17 rfl rfl 0 rfl ?_
  refine v_alen (pc' := 19) hc_J2_addAll dJ2_addAll_18 rfl e (fun v7 _ e => ?_)
  refine v_istore_n (pc' := 20) (lv' := [(3, .int v7), (2, .ref r2), (0, .ref x0), (1, .ref x1)]) hc_J2_addAll dJ2_addAll_19 rfl rfl (Nat.le_of_ble_eq_true rfl) rfl ?_
  refine v_iload_n (pc' := 21) hc_J2_addAll dJ2_addAll_20 rfl rfl 0 rfl ?_
  refine v_if_ne (pt := 26) (pf := 24) hc_J2_addAll dJ2_addAll_21 rfl rfl e (fun _ e => ?_) (fun _ e => ?_)
  · refine v_iconst (pc' := 25) (v := 0) hc_J2_addAll dJ2_addAll_24 rfl rfl ?_
    obtain ⟨rfl, rfl⟩ := ret_of e
    exact v_zret hc_J2_addAll rfl (ft := .boolean) rfl dJ2_addAll_25 rfl rfl
  · refine v_iload_n (pc' := 27) hc_J2_addAll dJ2_addAll_26 rfl rfl 0 rfl ?_
    refine v_aload_n (pc' := 28) hc_J2_addAll dJ2_addAll_27 rfl rfl 2 rfl ?_
    refine v_gfR (pc' := 31) hc_J2_addAll ho_J2_addAll KJ2 1 (Nat.le_of_ble_eq_true rfl) q149 (Or.inl rfl) dJ2_addAll_28 rfl e (fun v8 _ e => ?_)
    refine v_dup (pc' := 32) hc_J2_addAll dJ2_addAll_31 rfl rfl ?_
    refine v_astore (pc' := 34) (lv' := [(4, .ref v8), (3, .int v7), (2, .ref r2), (0, .ref x0), (1, .ref x1)]) hc_J2_addAll dJ2_addAll_32 rfl (Nat.le_of_ble_eq_true rfl) rfl ?_
    refine v_alen (pc' := 35) hc_J2_addAll dJ2_addAll_34 rfl e (fun v9 _ e => ?_)
    refine v_aload_n (pc' := 36) hc_J2_addAll dJ2_addAll_35 rfl rfl 3 rfl ?_
    refine v_gfI (pc' := 39) hc_J2_addAll ho_J2_addAll KJ2 2 (Nat.le_of_ble_eq_true rfl) q152 (Or.inl rfl) dJ2_addAll_36 rfl e (fun v10 _ e => ?_)
    refine v_dup (pc' := 40) hc_J2_addAll dJ2_addAll_39 rfl rfl ?_
    refine v_istore (pc' := 42) (lv' := [(5, .int v10), (4, .ref v8), (3, .int v7), (2, .ref r2), (0, .ref x0), (1, .ref x1)]) hc_J2_addAll dJ2_addAll_40 rfl (Nat.le_of_ble_eq_true rfl) rfl ?_
    refine v_isub (pc' := 43) hc_J2_addAll dJ2_addAll_42 rfl ?_
    refine v_icmp_le (pt := 56) (pf := 46) hc_J2_addAll dJ2_addAll_43 rfl rfl e (fun _ e => ?_) (fun _ e => ?_)
    · refine v_pick [4, 3, 2, 1, 0] rfl ?_
      exact w_J2_addAll_j56 D l hl as h0 x0 r2 v7 v8 v10 h6 e
    · refine v_aload_n (pc' := 47) hc_J2_addAll dJ2_addAll_46 rfl rfl 4 rfl ?_
      refine v_iload (pc' := 49) hc_J2_addAll dJ2_addAll_47 rfl 0 rfl ?_
      refine v_iload_n (pc' := 50) hc_J2_addAll dJ2_addAll_49 rfl rfl 2 rfl ?_
      refine v_iadd (pc' := 51) hc_J2_addAll dJ2_addAll_50 rfl ?_
      obtain ⟨c11, e⟩ := gd_of e
      obtain ⟨r12, h13, e14, e⟩ := bd2_of e
      refine k_V (pc' := 54) (ci := 16) (n := 1) hc_J2_addAll ho_J2_addAll rfl c11 (w_J2_grow D l hl x0 (v10 + v7) h6 e14) (wA_l q855) q857 (wA_l qs5) q79 q858 hy_17 ⟨Nat.le_of_ble_eq_true rfl, Nat.le_of_ble_eq_true rfl⟩ rfl rfl (Nat.le_of_ble_eq_true rfl) dJ2_addAll_51 rfl (kS ?_) kN
      refine v_astore (pc' := 56) (lv' := [(4, .ref r12), (5, .int v10), (3, .int v7), (2, .ref r2), (0, .ref x0), (1, .ref x1)]) hc_J2_addAll dJ2_addAll_54 rfl (Nat.le_of_ble_eq_true rfl) rfl ?_
      refine v_pick [4, 3, 2, 0, 1] rfl ?_
      exact w_J2_addAll_j56 D l hl as h0 x0 r2 v7 r12 v10 h13 e
theorem w_J2_addAll (D : va_G) (l : Launch) (hl : l.stackTraces = false) (x0 : Nat) (x1 : Nat) (h : AH) {r : Int32} {hF : AH} (e : f_J2_addAll x0 x1 h = some (r, hF)) : MetV D l yJ2_addAll (Cond.code yJ2_addAll cJ2_addAll 6 (Option.some .boolean)) 5 136 [.ref x0, .ref x1] h hF (oI r) :=
  met_ofF (by decide +kernel) hl (Nat.le_of_ble_eq_true rfl) rfl (v_J2_addAll D l hl [.ref x0, .ref x1] h x0 x1 h e)
/-! java/util/ArrayList.size()I  -/
abbrev G_J2_size (D : va_G) (l : Launch) (as : List Value) (h0 hF : AH) (o : Out) : CT := (D, l, (yJ2_size.cls, yJ2_size, cJ2_size, 1, (Option.some .int), 1, 48, []), as, h0, hF, o)
theorem hc_J2_size {D : va_G} {l : Launch} {as : List Value} {h0 hF : AH} {o : Out} : gC (G_J2_size D l as h0 hF o) = cJ2_size := rfl
theorem ho_J2_size {D : va_G} {l : Launch} {as : List Value} {h0 hF : AH} {o : Out} : gO (G_J2_size D l as h0 hF o) = "java/util/ArrayList" := rfl
theorem hp_J2_size {D : va_G} {l : Launch} {as : List Value} {h0 hF : AH} {o : Out} (pc : Nat) : ∀ z ∈ tableOf (gHd (G_J2_size D l as h0 hF o)), covers z pc = false := hpN
def f_J2_size (x0 : Nat) (h : AH) : Option (Int32 × AH) :=
  bd (gtI h 16 x0 2) fun v1 =>
  some (v1, h)
theorem v_J2_size (D : va_G) (l : Launch) (hl : l.stackTraces = false) (as : List Value) (h0 : AH) {r : Int32} {hF : AH} (x0 : Nat) (h : AH) (e : f_J2_size x0 h = some (r, hF)) : V (G_J2_size D l as h0 hF (oI r)) h 0 [(0, .ref x0)] [] := by
  unfold f_J2_size at e
  refine v_aload_n (pc' := 1) hc_J2_size dJ2_size_0 rfl rfl 0 rfl ?_
  refine v_gfI (pc' := 4) hc_J2_size ho_J2_size KJ2 2 (Nat.le_of_ble_eq_true rfl) q152 (Or.inl rfl) dJ2_size_1 rfl e (fun v1 _ e => ?_)
  obtain ⟨rfl, rfl⟩ := ret_of e
  exact v_iret hc_J2_size rfl dJ2_size_4 rfl rfl
theorem w_J2_size (D : va_G) (l : Launch) (hl : l.stackTraces = false) (x0 : Nat) (h : AH) {r : Int32} {hF : AH} (e : f_J2_size x0 h = some (r, hF)) : MetV D l yJ2_size (Cond.code yJ2_size cJ2_size 1 (Option.some .int)) 1 48 [.ref x0] h hF (oI r) :=
  met_ofF (by decide +kernel) hl (Nat.le_of_ble_eq_true rfl) rfl (v_J2_size D l hl [.ref x0] h x0 h e)
/-! jdk/internal/util/Preconditions.checkIndex(IILjava/util/function/BiFunction;)I {'nul': (2,)} -/
abbrev G_J16_checkIndex_n2 (D : va_G) (l : Launch) (as : List Value) (h0 hF : AH) (o : Out) : CT := (D, l, (yJ16_checkIndex.cls, yJ16_checkIndex, cJ16_checkIndex, 3, (Option.some .int), 1, 48, []), as, h0, hF, o)
theorem hc_J16_checkIndex_n2 {D : va_G} {l : Launch} {as : List Value} {h0 hF : AH} {o : Out} : gC (G_J16_checkIndex_n2 D l as h0 hF o) = cJ16_checkIndex := rfl
theorem ho_J16_checkIndex_n2 {D : va_G} {l : Launch} {as : List Value} {h0 hF : AH} {o : Out} : gO (G_J16_checkIndex_n2 D l as h0 hF o) = "jdk/internal/util/Preconditions" := rfl
theorem hp_J16_checkIndex_n2 {D : va_G} {l : Launch} {as : List Value} {h0 hF : AH} {o : Out} (pc : Nat) : ∀ z ∈ tableOf (gHd (G_J16_checkIndex_n2 D l as h0 hF o)), covers z pc = false := hpN
def f_J16_checkIndex_n2 (x0 : Int32) (x1 : Int32) (h : AH) : Option (Int32 × AH) :=
  if x0 < 0 then (
    none
  ) else (
    if x0 < x1 then (
      some (x0, h)
    ) else (
      none
    )
  )
theorem v_J16_checkIndex_n2 (D : va_G) (l : Launch) (hl : l.stackTraces = false) (as : List Value) (h0 : AH) {r : Int32} {hF : AH} (x0 : Int32) (x1 : Int32) (h : AH) (e : f_J16_checkIndex_n2 x0 x1 h = some (r, hF)) : V (G_J16_checkIndex_n2 D l as h0 hF (oI r)) h 0 [(0, .int x0), (1, .int x1), (2, .null)] [] := by
  unfold f_J16_checkIndex_n2 at e
  refine v_iload_n (pc' := 1) hc_J16_checkIndex_n2 dJ16_checkIndex_0 rfl rfl 0 rfl ?_
  refine v_if_lt (pt := 9) (pf := 4) hc_J16_checkIndex_n2 dJ16_checkIndex_1 rfl rfl e (fun _ e => ?_) (fun _ e => ?_)
  · refine v_aload_nN (pc' := 10) hc_J16_checkIndex_n2 dJ16_checkIndex_9 rfl rfl 2 rfl ?_
    refine v_iload_n (pc' := 11) hc_J16_checkIndex_n2 dJ16_checkIndex_10 rfl rfl 0 rfl ?_
    refine v_iload_n (pc' := 12) hc_J16_checkIndex_n2 dJ16_checkIndex_11 rfl rfl 1 rfl ?_
    exact nomatch e
  · refine v_iload_n (pc' := 5) hc_J16_checkIndex_n2 dJ16_checkIndex_4 rfl rfl 0 rfl ?_
    refine v_iload_n (pc' := 6) hc_J16_checkIndex_n2 dJ16_checkIndex_5 rfl rfl 1 rfl ?_
    refine v_icmp_lt (pt := 16) (pf := 9) hc_J16_checkIndex_n2 dJ16_checkIndex_6 rfl rfl e (fun _ e => ?_) (fun _ e => ?_)
    · refine v_iload_n (pc' := 17) hc_J16_checkIndex_n2 dJ16_checkIndex_16 rfl rfl 0 rfl ?_
      obtain ⟨rfl, rfl⟩ := ret_of e
      exact v_iret hc_J16_checkIndex_n2 rfl dJ16_checkIndex_17 rfl rfl
    · refine v_aload_nN (pc' := 10) hc_J16_checkIndex_n2 dJ16_checkIndex_9 rfl rfl 2 rfl ?_
      refine v_iload_n (pc' := 11) hc_J16_checkIndex_n2 dJ16_checkIndex_10 rfl rfl 0 rfl ?_
      refine v_iload_n (pc' := 12) hc_J16_checkIndex_n2 dJ16_checkIndex_11 rfl rfl 1 rfl ?_
      exact nomatch e
theorem w_J16_checkIndex_n2 (D : va_G) (l : Launch) (hl : l.stackTraces = false) (x0 : Int32) (x1 : Int32) (h : AH) {r : Int32} {hF : AH} (e : f_J16_checkIndex_n2 x0 x1 h = some (r, hF)) : MetV D l yJ16_checkIndex (Cond.code yJ16_checkIndex cJ16_checkIndex 3 (Option.some .int)) 1 48 [.int x0, .int x1, .null] h hF (oI r) :=
  met_ofF (by decide +kernel) hl (Nat.le_of_ble_eq_true rfl) rfl (v_J16_checkIndex_n2 D l hl [.int x0, .int x1, .null] h x0 x1 h e)
/-! java/util/Objects.checkIndex(II)I  -/
abbrev G_J18_checkIndex (D : va_G) (l : Launch) (as : List Value) (h0 hF : AH) (o : Out) : CT := (D, l, (yJ18_checkIndex.cls, yJ18_checkIndex, cJ18_checkIndex, 2, (Option.some .int), 2, 70, []), as, h0, hF, o)
theorem hc_J18_checkIndex {D : va_G} {l : Launch} {as : List Value} {h0 hF : AH} {o : Out} : gC (G_J18_checkIndex D l as h0 hF o) = cJ18_checkIndex := rfl
theorem ho_J18_checkIndex {D : va_G} {l : Launch} {as : List Value} {h0 hF : AH} {o : Out} : gO (G_J18_checkIndex D l as h0 hF o) = "java/util/Objects" := rfl
theorem hp_J18_checkIndex {D : va_G} {l : Launch} {as : List Value} {h0 hF : AH} {o : Out} (pc : Nat) : ∀ z ∈ tableOf (gHd (G_J18_checkIndex D l as h0 hF o)), covers z pc = false := hpN
def f_J18_checkIndex (x0 : Int32) (x1 : Int32) (h : AH) : Option (Int32 × AH) :=
  bd2 (f_J16_checkIndex_n2 x0 x1 h) fun r1 h2 =>
  some (r1, h2)
theorem v_J18_checkIndex (D : va_G) (l : Launch) (hl : l.stackTraces = false) (as : List Value) (h0 : AH) {r : Int32} {hF : AH} (x0 : Int32) (x1 : Int32) (h : AH) (e : f_J18_checkIndex x0 x1 h = some (r, hF)) : V (G_J18_checkIndex D l as h0 hF (oI r)) h 0 [(0, .int x0), (1, .int x1)] [] := by
  unfold f_J18_checkIndex at e
  refine v_iload_n (pc' := 1) hc_J18_checkIndex dJ18_checkIndex_0 rfl rfl 0 rfl ?_
  refine v_iload_n (pc' := 2) hc_J18_checkIndex dJ18_checkIndex_1 rfl rfl 1 rfl ?_
  refine v_null (pc' := 3) hc_J18_checkIndex dJ18_checkIndex_2 rfl ?_
  obtain ⟨r1, h2, e3, e⟩ := bd2_of e
  refine k_S (pc' := 6) (n := 3) hc_J18_checkIndex ho_J18_checkIndex (w_J16_checkIndex_n2 D l hl x0 x1 h e3) (wA_l q409) q410 q97 q411 hy_20 ⟨Nat.le_of_ble_eq_true rfl, Nat.le_of_ble_eq_true rfl⟩ rfl rfl (Nat.le_of_ble_eq_true rfl) dJ18_checkIndex_3 rfl (kS ?_) kN
  obtain ⟨rfl, rfl⟩ := ret_of e
  exact v_iret hc_J18_checkIndex rfl dJ18_checkIndex_6 rfl rfl
theorem w_J18_checkIndex (D : va_G) (l : Launch) (hl : l.stackTraces = false) (x0 : Int32) (x1 : Int32) (h : AH) {r : Int32} {hF : AH} (e : f_J18_checkIndex x0 x1 h = some (r, hF)) : MetV D l yJ18_checkIndex (Cond.code yJ18_checkIndex cJ18_checkIndex 2 (Option.some .int)) 2 70 [.int x0, .int x1] h hF (oI r) :=
  met_ofF (by decide +kernel) hl (Nat.le_of_ble_eq_true rfl) rfl (v_J18_checkIndex D l hl [.int x0, .int x1] h x0 x1 h e)
/-! java/util/ArrayList.elementData(I)Ljava/lang/Object;  -/
abbrev G_J2_elementData (D : va_G) (l : Launch) (as : List Value) (h0 hF : AH) (o : Out) : CT := (D, l, (yJ2_elementData.cls, yJ2_elementData, cJ2_elementData, 2, (Option.some (.object "java/lang/Object")), 1, 48, []), as, h0, hF, o)
theorem hc_J2_elementData {D : va_G} {l : Launch} {as : List Value} {h0 hF : AH} {o : Out} : gC (G_J2_elementData D l as h0 hF o) = cJ2_elementData := rfl
theorem ho_J2_elementData {D : va_G} {l : Launch} {as : List Value} {h0 hF : AH} {o : Out} : gO (G_J2_elementData D l as h0 hF o) = "java/util/ArrayList" := rfl
theorem hp_J2_elementData {D : va_G} {l : Launch} {as : List Value} {h0 hF : AH} {o : Out} (pc : Nat) : ∀ z ∈ tableOf (gHd (G_J2_elementData D l as h0 hF o)), covers z pc = false := hpN
def f_J2_elementData (x0 : Nat) (x1 : Int32) (h : AH) : Option (Nat × AH) :=
  bd (gtR h 16 x0 1) fun v1 =>
  bd (ldN h v1 x1) fun v2 =>
  some (v2, h)
theorem v_J2_elementData (D : va_G) (l : Launch) (hl : l.stackTraces = false) (as : List Value) (h0 : AH) {r : Nat} {hF : AH} (x0 : Nat) (x1 : Int32) (h : AH) (e : f_J2_elementData x0 x1 h = some (r, hF)) : V (G_J2_elementData D l as h0 hF (oR r)) h 0 [(0, .ref x0), (1, .int x1)] [] := by
  unfold f_J2_elementData at e
  refine v_aload_n (pc' := 1) hc_J2_elementData dJ2_elementData_0 rfl rfl 0 rfl ?_
  refine v_gfR (pc' := 4) hc_J2_elementData ho_J2_elementData KJ2 1 (Nat.le_of_ble_eq_true rfl) q149 (Or.inl rfl) dJ2_elementData_1 rfl e (fun v1 _ e => ?_)
  refine v_iload_n (pc' := 5) hc_J2_elementData dJ2_elementData_4 rfl rfl 1 rfl ?_
  refine v_aald (pc' := 6) hc_J2_elementData dJ2_elementData_5 rfl e (fun v2 _ e => ?_)
  obtain ⟨rfl, rfl⟩ := ret_of e
  exact v_aret hc_J2_elementData rfl (Or.inl ⟨_, rfl⟩) (Or.inr ⟨_, rfl⟩) dJ2_elementData_6 rfl rfl
theorem w_J2_elementData (D : va_G) (l : Launch) (hl : l.stackTraces = false) (x0 : Nat) (x1 : Int32) (h : AH) {r : Nat} {hF : AH} (e : f_J2_elementData x0 x1 h = some (r, hF)) : MetV D l yJ2_elementData (Cond.code yJ2_elementData cJ2_elementData 2 (Option.some (.object "java/lang/Object"))) 1 48 [.ref x0, .int x1] h hF (oR r) :=
  met_ofF (by decide +kernel) hl (Nat.le_of_ble_eq_true rfl) rfl (v_J2_elementData D l hl [.ref x0, .int x1] h x0 x1 h e)
/-! java/util/ArrayList.get(I)Ljava/lang/Object;  -/
abbrev G_J2_get (D : va_G) (l : Launch) (as : List Value) (h0 hF : AH) (o : Out) : CT := (D, l, (yJ2_get.cls, yJ2_get, cJ2_get, 2, (Option.some (.object "java/lang/Object")), 3, 91, []), as, h0, hF, o)
theorem hc_J2_get {D : va_G} {l : Launch} {as : List Value} {h0 hF : AH} {o : Out} : gC (G_J2_get D l as h0 hF o) = cJ2_get := rfl
theorem ho_J2_get {D : va_G} {l : Launch} {as : List Value} {h0 hF : AH} {o : Out} : gO (G_J2_get D l as h0 hF o) = "java/util/ArrayList" := rfl
theorem hp_J2_get {D : va_G} {l : Launch} {as : List Value} {h0 hF : AH} {o : Out} (pc : Nat) : ∀ z ∈ tableOf (gHd (G_J2_get D l as h0 hF o)), covers z pc = false := hpN
def f_J2_get (x0 : Nat) (x1 : Int32) (h : AH) : Option (Nat × AH) :=
  bd (gtI h 16 x0 2) fun v1 =>
  bd2 (f_J18_checkIndex x1 v1 h) fun r2 h3 =>
  gd (isC h3 16 x0) <|
  bd2 (f_J2_elementData x0 x1 h3) fun r6 h7 =>
  some (r6, h7)
theorem v_J2_get (D : va_G) (l : Launch) (hl : l.stackTraces = false) (as : List Value) (h0 : AH) {r : Nat} {hF : AH} (x0 : Nat) (x1 : Int32) (h : AH) (e : f_J2_get x0 x1 h = some (r, hF)) : V (G_J2_get D l as h0 hF (oR r)) h 0 [(0, .ref x0), (1, .int x1)] [] := by
  unfold f_J2_get at e
  refine v_iload_n (pc' := 1) hc_J2_get dJ2_get_0 rfl rfl 1 rfl ?_
  refine v_aload_n (pc' := 2) hc_J2_get dJ2_get_1 rfl rfl 0 rfl ?_
  refine v_gfI (pc' := 5) hc_J2_get ho_J2_get KJ2 2 (Nat.le_of_ble_eq_true rfl) q152 (Or.inl rfl) dJ2_get_2 rfl e (fun v1 _ e => ?_)
  obtain ⟨r2, h3, e4, e⟩ := bd2_of e
  refine k_S (pc' := 8) (n := 2) hc_J2_get ho_J2_get (w_J18_checkIndex D l hl x1 v1 h e4) (wA_l q406) q407 q100 q408 hy_21 ⟨Nat.le_of_ble_eq_true rfl, Nat.le_of_ble_eq_true rfl⟩ rfl rfl (Nat.le_of_ble_eq_true rfl) dJ2_get_5 rfl (kS ?_) kN
  refine v_pop (pc' := 9) hc_J2_get dJ2_get_8 rfl rfl ?_
  refine v_aload_n (pc' := 10) hc_J2_get dJ2_get_9 rfl rfl 0 rfl ?_
  refine v_iload_n (pc' := 11) hc_J2_get dJ2_get_10 rfl rfl 1 rfl ?_
  obtain ⟨c5, e⟩ := gd_of e
  obtain ⟨r6, h7, e8, e⟩ := bd2_of e
  refine k_V (pc' := 14) (ci := 16) (n := 1) hc_J2_get ho_J2_get rfl c5 (w_J2_elementData D l hl x0 x1 h3 e8) (wA_l q412) q413 (wA_l q414) q79 q415 hy_22 ⟨Nat.le_of_ble_eq_true rfl, Nat.le_of_ble_eq_true rfl⟩ rfl rfl (Nat.le_of_ble_eq_true rfl) dJ2_get_11 rfl (kS ?_) kN
  obtain ⟨rfl, rfl⟩ := ret_of e
  exact v_aret hc_J2_get rfl (Or.inl ⟨_, rfl⟩) (Or.inr ⟨_, rfl⟩) dJ2_get_14 rfl rfl
theorem w_J2_get (D : va_G) (l : Launch) (hl : l.stackTraces = false) (x0 : Nat) (x1 : Int32) (h : AH) {r : Nat} {hF : AH} (e : f_J2_get x0 x1 h = some (r, hF)) : MetV D l yJ2_get (Cond.code yJ2_get cJ2_get 2 (Option.some (.object "java/lang/Object"))) 3 91 [.ref x0, .int x1] h hF (oR r) :=
  met_ofF (by decide +kernel) hl (Nat.le_of_ble_eq_true rfl) rfl (v_J2_get D l hl [.ref x0, .int x1] h x0 x1 h e)
/-! java/util/ArrayList.grow()[Ljava/lang/Object;  -/
abbrev G_J2_grow_2 (D : va_G) (l : Launch) (as : List Value) (h0 hF : AH) (o : Out) : CT := (D, l, (yJ2_grow_2.cls, yJ2_grow_2, cJ2_grow_2, 1, (Option.some (.array (.object "java/lang/Object"))), 5, 136, []), as, h0, hF, o)
theorem hc_J2_grow_2 {D : va_G} {l : Launch} {as : List Value} {h0 hF : AH} {o : Out} : gC (G_J2_grow_2 D l as h0 hF o) = cJ2_grow_2 := rfl
theorem ho_J2_grow_2 {D : va_G} {l : Launch} {as : List Value} {h0 hF : AH} {o : Out} : gO (G_J2_grow_2 D l as h0 hF o) = "java/util/ArrayList" := rfl
theorem hp_J2_grow_2 {D : va_G} {l : Launch} {as : List Value} {h0 hF : AH} {o : Out} (pc : Nat) : ∀ z ∈ tableOf (gHd (G_J2_grow_2 D l as h0 hF o)), covers z pc = false := hpN
def f_J2_grow_2 (x0 : Nat) (h : AH) : Option (Nat × AH) :=
  bd (gtI h 16 x0 2) fun v1 =>
  gd (isC h 16 x0) <|
  bd2 (f_J2_grow x0 (v1 + (1 : Int32)) h) fun r3 h4 =>
  some (r3, h4)
theorem v_J2_grow_2 (D : va_G) (l : Launch) (hl : l.stackTraces = false) (as : List Value) (h0 : AH) {r : Nat} {hF : AH} (x0 : Nat) (h : AH) (e : f_J2_grow_2 x0 h = some (r, hF)) : V (G_J2_grow_2 D l as h0 hF (oR r)) h 0 [(0, .ref x0)] [] := by
  unfold f_J2_grow_2 at e
  refine v_aload_n (pc' := 1) hc_J2_grow_2 dJ2_grow_2_0 rfl rfl 0 rfl ?_
  refine v_aload_n (pc' := 2) hc_J2_grow_2 dJ2_grow_2_1 rfl rfl 0 rfl ?_
  refine v_gfI (pc' := 5) hc_J2_grow_2 ho_J2_grow_2 KJ2 2 (Nat.le_of_ble_eq_true rfl) q152 (Or.inl rfl) dJ2_grow_2_2 rfl e (fun v1 _ e => ?_)
  refine v_iconst (pc' := 6) (v := 1) hc_J2_grow_2 dJ2_grow_2_5 rfl rfl ?_
  refine v_iadd (pc' := 7) hc_J2_grow_2 dJ2_grow_2_6 rfl ?_
  obtain ⟨c2, e⟩ := gd_of e
  obtain ⟨r3, h4, e5, e⟩ := bd2_of e
  refine k_V (pc' := 10) (ci := 16) (n := 1) hc_J2_grow_2 ho_J2_grow_2 rfl c2 (w_J2_grow D l hl x0 (v1 + (1 : Int32)) h e5) (wA_l q855) q857 (wA_l qs5) q79 q858 hy_17 ⟨Nat.le_of_ble_eq_true rfl, Nat.le_of_ble_eq_true rfl⟩ rfl rfl (Nat.le_of_ble_eq_true rfl) dJ2_grow_2_7 rfl (kS ?_) kN
  obtain ⟨rfl, rfl⟩ := ret_of e
  exact v_aret hc_J2_grow_2 rfl (Or.inr ⟨_, rfl⟩) (Or.inr ⟨_, rfl⟩) dJ2_grow_2_10 rfl rfl
theorem w_J2_grow_2 (D : va_G) (l : Launch) (hl : l.stackTraces = false) (x0 : Nat) (h : AH) {r : Nat} {hF : AH} (e : f_J2_grow_2 x0 h = some (r, hF)) : MetV D l yJ2_grow_2 (Cond.code yJ2_grow_2 cJ2_grow_2 1 (Option.some (.array (.object "java/lang/Object")))) 5 136 [.ref x0] h hF (oR r) :=
  met_ofF (by decide +kernel) hl (Nat.le_of_ble_eq_true rfl) rfl (v_J2_grow_2 D l hl [.ref x0] h x0 h e)
/-! java/util/ArrayList.add(Ljava/lang/Object;[Ljava/lang/Object;I)V  -/
abbrev G_J2_add_2 (D : va_G) (l : Launch) (as : List Value) (h0 hF : AH) (o : Out) : CT := (D, l, (yJ2_add_2.cls, yJ2_add_2, cJ2_add_2, 4, (Option.none : Option FieldType), 6, 156, []), as, h0, hF, o)
theorem hc_J2_add_2 {D : va_G} {l : Launch} {as : List Value} {h0 hF : AH} {o : Out} : gC (G_J2_add_2 D l as h0 hF o) = cJ2_add_2 := rfl
theorem ho_J2_add_2 {D : va_G} {l : Launch} {as : List Value} {h0 hF : AH} {o : Out} : gO (G_J2_add_2 D l as h0 hF o) = "java/util/ArrayList" := rfl
theorem hp_J2_add_2 {D : va_G} {l : Launch} {as : List Value} {h0 hF : AH} {o : Out} (pc : Nat) : ∀ z ∈ tableOf (gHd (G_J2_add_2 D l as h0 hF o)), covers z pc = false := hpN
def f_J2_add_2_j11 (x0 : Nat) (x1 : Nat) (x2 : Nat) (x3 : Int32) (h : AH) : Option (Unit × AH) :=
  bd (stQ h x2 x3 (some x1)) fun h1 =>
  bd (stF h1 16 x0 2 (.int (x3 + (1 : Int32)))) fun h2 =>
  some ((), h2)
theorem w_J2_add_2_j11 (D : va_G) (l : Launch) (hl : l.stackTraces = false) (as : List Value) (h0 : AH) {r : Unit} {hF : AH} (x0 : Nat) (x1 : Nat) (x2 : Nat) (x3 : Int32) (h : AH) (e : f_J2_add_2_j11 x0 x1 x2 x3 h = some (r, hF)) : V (G_J2_add_2 D l as h0 hF (oV r)) h 11 [(0, .ref x0), (1, .ref x1), (2, .ref x2), (3, .int x3)] [] := by
  unfold f_J2_add_2_j11 at e
  refine v_aload_n (pc' := 12) hc_J2_add_2 dJ2_add_2_11 rfl rfl 2 rfl ?_
  refine v_iload_n (pc' := 13) hc_J2_add_2 dJ2_add_2_12 rfl rfl 3 rfl ?_
  refine v_aload_n (pc' := 14) hc_J2_add_2 dJ2_add_2_13 rfl rfl 1 rfl ?_
  refine v_aast (pc' := 15) hc_J2_add_2 dJ2_add_2_14 rfl e (fun h1 _ e => ?_)
  refine v_aload_n (pc' := 16) hc_J2_add_2 dJ2_add_2_15 rfl rfl 0 rfl ?_
  refine v_iload_n (pc' := 17) hc_J2_add_2 dJ2_add_2_16 rfl rfl 3 rfl ?_
  refine v_iconst (pc' := 18) (v := 1) hc_J2_add_2 dJ2_add_2_17 rfl rfl ?_
  refine v_iadd (pc' := 19) hc_J2_add_2 dJ2_add_2_18 rfl ?_
  refine v_pf (pc' := 22) hc_J2_add_2 ho_J2_add_2 KJ2 2 (Nat.le_of_ble_eq_true rfl) q152 (Or.inl rfl) rfl dJ2_add_2_19 rfl rfl rfl e (fun h2 _ e => ?_)
  obtain ⟨rfl, rfl⟩ := ret_of e
  exact v_ret hc_J2_add_2 rfl dJ2_add_2_22 rfl rfl
def f_J2_add_2 (x0 : Nat) (x1 : Nat) (x2 : Nat) (x3 : Int32) (h : AH) : Option (Unit × AH) :=
  bd (aLn h x2) fun v1 =>
  if x3 = v1 then (
    gd (isC h 16 x0) <|
    bd2 (f_J2_grow_2 x0 h) fun r3 h4 =>
    f_J2_add_2_j11 x0 x1 r3 x3 h4
  ) else (
    f_J2_add_2_j11 x0 x1 x2 x3 h
  )
theorem v_J2_add_2 (D : va_G) (l : Launch) (hl : l.stackTraces = false) (as : List Value) (h0 : AH) {r : Unit} {hF : AH} (x0 : Nat) (x1 : Nat) (x2 : Nat) (x3 : Int32) (h : AH) (e : f_J2_add_2 x0 x1 x2 x3 h = some (r, hF)) : V (G_J2_add_2 D l as h0 hF (oV r)) h 0 [(0, .ref x0), (1, .ref x1), (2, .ref x2), (3, .int x3)] [] := by
  unfold f_J2_add_2 at e
  refine v_iload_n (pc' := 1) hc_J2_add_2 dJ2_add_2_0 rfl rfl 3 rfl ?_
  refine v_aload_n (pc' := 2) hc_J2_add_2 dJ2_add_2_1 rfl rfl 2 rfl ?_
  refine v_alen (pc' := 3) hc_J2_add_2 dJ2_add_2_2 rfl e (fun v1 _ e => ?_)
  refine v_icmp_ne (pt := 11) (pf := 6) hc_J2_add_2 dJ2_add_2_3 rfl rfl e (fun _ e => ?_) (fun _ e => ?_)
  · refine v_aload_n (pc' := 7) hc_J2_add_2 dJ2_add_2_6 rfl rfl 0 rfl ?_
    obtain ⟨c2, e⟩ := gd_of e
    obtain ⟨r3, h4, e5, e⟩ := bd2_of e
    refine k_V (pc' := 10) (ci := 16) (n := 0) hc_J2_add_2 ho_J2_add_2 rfl c2 (w_J2_grow_2 D l hl x0 h e5) (wA_l q916) q918 (wA_l qs7) q79 q919 hy_26 ⟨Nat.le_of_ble_eq_true rfl, Nat.le_of_ble_eq_true rfl⟩ rfl rfl (Nat.le_of_ble_eq_true rfl) dJ2_add_2_7 rfl (kS ?_) kN
    refine v_astore_n (pc' := 11) (lv' := [(2, .ref r3), (0, .ref x0), (1, .ref x1), (3, .int x3)]) hc_J2_add_2 dJ2_add_2_10 rfl rfl (Nat.le_of_ble_eq_true rfl) rfl ?_
    refine v_pick [1, 2, 0, 3] rfl ?_
    exact w_J2_add_2_j11 D l hl as h0 x0 x1 r3 x3 h4 e
  · exact w_J2_add_2_j11 D l hl as h0 x0 x1 x2 x3 h e
theorem w_J2_add_2 (D : va_G) (l : Launch) (hl : l.stackTraces = false) (x0 : Nat) (x1 : Nat) (x2 : Nat) (x3 : Int32) (h : AH) {r : Unit} {hF : AH} (e : f_J2_add_2 x0 x1 x2 x3 h = some (r, hF)) : MetV D l yJ2_add_2 (Cond.code yJ2_add_2 cJ2_add_2 4 (Option.none : Option FieldType)) 6 156 [.ref x0, .ref x1, .ref x2, .int x3] h hF (oV r) :=
  met_ofF (by decide +kernel) hl (Nat.le_of_ble_eq_true rfl) rfl (v_J2_add_2 D l hl [.ref x0, .ref x1, .ref x2, .int x3] h x0 x1 x2 x3 h e)
/-! java/util/ArrayList.add(Ljava/lang/Object;)Z  -/
abbrev G_J2_add (D : va_G) (l : Launch) (as : List Value) (h0 hF : AH) (o : Out) : CT := (D, l, (yJ2_add.cls, yJ2_add, cJ2_add, 2, (Option.some .boolean), 7, 179, []), as, h0, hF, o)
theorem hc_J2_add {D : va_G} {l : Launch} {as : List Value} {h0 hF : AH} {o : Out} : gC (G_J2_add D l as h0 hF o) = cJ2_add := rfl
theorem ho_J2_add {D : va_G} {l : Launch} {as : List Value} {h0 hF : AH} {o : Out} : gO (G_J2_add D l as h0 hF o) = "java/util/ArrayList" := rfl
theorem hp_J2_add {D : va_G} {l : Launch} {as : List Value} {h0 hF : AH} {o : Out} (pc : Nat) : ∀ z ∈ tableOf (gHd (G_J2_add D l as h0 hF o)), covers z pc = false := hpN
def f_J2_add (x0 : Nat) (x1 : Nat) (h : AH) : Option (Int32 × AH) :=
  bd (gtI h 16 x0 0) fun v1 =>
  bd (stF h 16 x0 0 (.int (v1 + (1 : Int32)))) fun h2 =>
  bd (gtR h2 16 x0 1) fun v3 =>
  bd (gtI h2 16 x0 2) fun v4 =>
  gd (isC h2 16 x0) <|
  bd2 (f_J2_add_2 x0 x1 v3 v4 h2) fun r6 h7 =>
  some ((1 : Int32), h7)
theorem v_J2_add (D : va_G) (l : Launch) (hl : l.stackTraces = false) (as : List Value) (h0 : AH) {r : Int32} {hF : AH} (x0 : Nat) (x1 : Nat) (h : AH) (e : f_J2_add x0 x1 h = some (r, hF)) : V (G_J2_add D l as h0 hF (oI r)) h 0 [(0, .ref x0), (1, .ref x1)] [] := by
  unfold f_J2_add at e
  refine v_aload_n (pc' := 1) hc_J2_add dJ2_add_0 rfl rfl 0 rfl ?_
  refine v_dup (pc' := 2) hc_J2_add dJ2_add_1 rfl rfl ?_
  refine v_gfI (pc' := 5) hc_J2_add ho_J2_add KJ2 0 (Nat.le_of_ble_eq_true rfl) q156 (Or.inr q155) dJ2_add_2 rfl e (fun v1 _ e => ?_)
  refine v_iconst (pc' := 6) (v := 1) hc_J2_add dJ2_add_5 rfl rfl ?_
  refine v_iadd (pc' := 7) hc_J2_add dJ2_add_6 rfl ?_
  refine v_pf (pc' := 10) hc_J2_add ho_J2_add KJ2 0 (Nat.le_of_ble_eq_true rfl) q156 (Or.inr q155) rfl dJ2_add_7 rfl rfl rfl e (fun h2 _ e => ?_)
  refine v_aload_n (pc' := 11) hc_J2_add dJ2_add_10 rfl rfl 0 rfl ?_
  refine v_aload_n (pc' := 12) hc_J2_add dJ2_add_11 rfl rfl 1 rfl ?_
  refine v_aload_n (pc' := 13) hc_J2_add dJ2_add_12 rfl rfl 0 rfl ?_
  refine v_gfR (pc' := 16) hc_J2_add ho_J2_add KJ2 1 (Nat.le_of_ble_eq_true rfl) q149 (Or.inl rfl) dJ2_add_13 rfl e (fun v3 _ e => ?_)
  refine v_aload_n (pc' := 17) hc_J2_add dJ2_add_16 rfl rfl 0 rfl ?_
  refine v_gfI (pc' := 20) hc_J2_add ho_J2_add KJ2 2 (Nat.le_of_ble_eq_true rfl) q152 (Or.inl rfl) dJ2_add_17 rfl e (fun v4 _ e => ?_)
  obtain ⟨c5, e⟩ := gd_of e
  obtain ⟨r6, h7, e8, e⟩ := bd2_of e
  refine k_V (pc' := 23) (ci := 16) (n := 3) hc_J2_add ho_J2_add rfl c5 (w_J2_add_2 D l hl x0 x1 v3 v4 h2 e8) (wA_l q912) q914 (wA_l qs6) q79 q915 hy_27 ⟨Nat.le_of_ble_eq_true rfl, Nat.le_of_ble_eq_true rfl⟩ rfl rfl (Nat.le_of_ble_eq_true rfl) dJ2_add_20 rfl (kU ?_) kN
  refine v_iconst (pc' := 24) (v := 1) hc_J2_add dJ2_add_23 rfl rfl ?_
  obtain ⟨rfl, rfl⟩ := ret_of e
  exact v_zret hc_J2_add rfl (ft := .boolean) rfl dJ2_add_24 rfl rfl
theorem w_J2_add (D : va_G) (l : Launch) (hl : l.stackTraces = false) (x0 : Nat) (x1 : Nat) (h : AH) {r : Int32} {hF : AH} (e : f_J2_add x0 x1 h = some (r, hF)) : MetV D l yJ2_add (Cond.code yJ2_add cJ2_add 2 (Option.some .boolean)) 7 179 [.ref x0, .ref x1] h hF (oI r) :=
  met_ofF (by decide +kernel) hl (Nat.le_of_ble_eq_true rfl) rfl (v_J2_add D l hl [.ref x0, .ref x1] h x0 x1 h e)
/-! java/lang/String.isLatin1()Z  -/
abbrev G_J6_isLatin1 (D : va_G) (l : Launch) (as : List Value) (h0 hF : AH) (o : Out) : CT := (D, l, (yJ6_isLatin1.cls, yJ6_isLatin1, cJ6_isLatin1, 1, (Option.some .boolean), 1, 48, []), as, h0, hF, o)
theorem hc_J6_isLatin1 {D : va_G} {l : Launch} {as : List Value} {h0 hF : AH} {o : Out} : gC (G_J6_isLatin1 D l as h0 hF o) = cJ6_isLatin1 := rfl
theorem ho_J6_isLatin1 {D : va_G} {l : Launch} {as : List Value} {h0 hF : AH} {o : Out} : gO (G_J6_isLatin1 D l as h0 hF o) = "java/lang/String" := rfl
theorem hp_J6_isLatin1 {D : va_G} {l : Launch} {as : List Value} {h0 hF : AH} {o : Out} (pc : Nat) : ∀ z ∈ tableOf (gHd (G_J6_isLatin1 D l as h0 hF o)), covers z pc = false := hpN
def f_J6_isLatin1 (x0 : Nat) (h : AH) : Option (Int32 × AH) :=
  bd (gtI h 19 x0 1) fun v1 =>
  if v1 = 0 then (
    some ((1 : Int32), h)
  ) else (
    some ((0 : Int32), h)
  )
theorem v_J6_isLatin1 (D : va_G) (l : Launch) (hl : l.stackTraces = false) (as : List Value) (h0 : AH) {r : Int32} {hF : AH} (x0 : Nat) (h : AH) (e : f_J6_isLatin1 x0 h = some (r, hF)) : V (G_J6_isLatin1 D l as h0 hF (oI r)) h 0 [(0, .ref x0)] [] := by
  unfold f_J6_isLatin1 at e
  refine v_getsI (pc' := 3) (x := 1) hc_J6_isLatin1 ho_J6_isLatin1 (by decide +kernel) q704 dJ6_isLatin1_0 rfl ?_
  refine v_if_eqF (pt := 17) (pf := 6) hc_J6_isLatin1 dJ6_isLatin1_3 rfl rfl (by decide) ?_
  refine v_aload_n (pc' := 7) hc_J6_isLatin1 dJ6_isLatin1_6 rfl rfl 0 rfl ?_
  refine v_gfI (pc' := 10) hc_J6_isLatin1 ho_J6_isLatin1 KJ6 1 (Nat.le_of_ble_eq_true rfl) q794 (Or.inl rfl) dJ6_isLatin1_7 rfl e (fun v1 _ e => ?_)
  refine v_if_ne (pt := 17) (pf := 13) hc_J6_isLatin1 dJ6_isLatin1_10 rfl rfl e (fun _ e => ?_) (fun _ e => ?_)
  · refine v_iconst (pc' := 14) (v := 1) hc_J6_isLatin1 dJ6_isLatin1_13 rfl rfl ?_
    refine v_goto (pt := 18) hc_J6_isLatin1 dJ6_isLatin1_14 rfl ?_
    obtain ⟨rfl, rfl⟩ := ret_of e
    exact v_zret hc_J6_isLatin1 rfl (ft := .boolean) rfl dJ6_isLatin1_18 rfl rfl
  · refine v_iconst (pc' := 18) (v := 0) hc_J6_isLatin1 dJ6_isLatin1_17 rfl rfl ?_
    obtain ⟨rfl, rfl⟩ := ret_of e
    exact v_zret hc_J6_isLatin1 rfl (ft := .boolean) rfl dJ6_isLatin1_18 rfl rfl
theorem w_J6_isLatin1 (D : va_G) (l : Launch) (hl : l.stackTraces = false) (x0 : Nat) (h : AH) {r : Int32} {hF : AH} (e : f_J6_isLatin1 x0 h = some (r, hF)) : MetV D l yJ6_isLatin1 (Cond.code yJ6_isLatin1 cJ6_isLatin1 1 (Option.some .boolean)) 1 48 [.ref x0] h hF (oI r) :=
  met_ofF (by decide +kernel) hl (Nat.le_of_ble_eq_true rfl) rfl (v_J6_isLatin1 D l hl [.ref x0] h x0 h e)
/-! jdk/internal/util/ArraysSupport.signedHashCode(I[BII)I  -/
abbrev G_J14_signedHashCode (D : va_G) (l : Launch) (as : List Value) (h0 hF : AH) (o : Out) : CT := (D, l, (yJ14_signedHashCode.cls, yJ14_signedHashCode, cJ14_signedHashCode, 6, (Option.some .int), 1, 48, []), as, h0, hF, o)
theorem hc_J14_signedHashCode {D : va_G} {l : Launch} {as : List Value} {h0 hF : AH} {o : Out} : gC (G_J14_signedHashCode D l as h0 hF o) = cJ14_signedHashCode := rfl
theorem ho_J14_signedHashCode {D : va_G} {l : Launch} {as : List Value} {h0 hF : AH} {o : Out} : gO (G_J14_signedHashCode D l as h0 hF o) = "jdk/internal/util/ArraysSupport" := rfl
theorem hp_J14_signedHashCode {D : va_G} {l : Launch} {as : List Value} {h0 hF : AH} {o : Out} (pc : Nat) : ∀ z ∈ tableOf (gHd (G_J14_signedHashCode D l as h0 hF o)), covers z pc = false := hpN
def fb_J14_signedHashCode_l8 (rec : Int32 → Nat → Int32 → Int32 → AH → Option (Int32 × AH)) (x0 : Int32) (x1 : Nat) (x4 : Int32) (x5 : Int32) (h : AH) : Option (Int32 × AH) :=
  if x4 ≤ x5 then (
    some (x0, h)
  ) else (
    bd (ldI h 3 x1 x5) fun v1 =>
    rec (((31 : Int32) * x0) + (v1 &&& (255 : Int32))) x1 x4 (x5 + 1) h
  )
def f_J14_signedHashCode_l8 : Nat → Int32 → Nat → Int32 → Int32 → AH → Option (Int32 × AH)
  | 0 => fun _ _ _ _ _ => none
  | n + 1 => fb_J14_signedHashCode_l8 (f_J14_signedHashCode_l8 n) 
theorem w_J14_signedHashCode_l8 (D : va_G) (l : Launch) (hl : l.stackTraces = false) (as : List Value) (h0 : AH) {r : Int32} {hF : AH} : ∀ (n : Nat) (x0 : Int32) (x1 : Nat) (x4 : Int32) (x5 : Int32) (h : AH), f_J14_signedHashCode_l8 n x0 x1 x4 x5 h = some (r, hF) → V (G_J14_signedHashCode D l as h0 hF (oI r)) h 8 [(0, .int x0), (1, .ref x1), (4, .int x4), (5, .int x5)] [] := by
  intro n; induction n with
  | zero => intro x0 x1 x4 x5 h e; exact absurd (show (none : Option (Int32 × AH)) = some _ from e) (fun z => nomatch z)
  | succ n IH =>
    intro x0 x1 x4 x5 h e
    have e : fb_J14_signedHashCode_l8 (f_J14_signedHashCode_l8 n) x0 x1 x4 x5 h = some (r, hF) := e
    unfold fb_J14_signedHashCode_l8 at e
    refine v_iload (pc' := 10) hc_J14_signedHashCode dJ14_signedHashCode_8 rfl 3 rfl ?_
    refine v_iload (pc' := 12) hc_J14_signedHashCode dJ14_signedHashCode_10 rfl 2 rfl ?_
    refine v_icmp_ge (pt := 35) (pf := 15) hc_J14_signedHashCode dJ14_signedHashCode_12 rfl rfl e (fun _ e => ?_) (fun _ e => ?_)
    · refine v_iload_n (pc' := 36) hc_J14_signedHashCode dJ14_signedHashCode_35 rfl rfl 0 rfl ?_
      obtain ⟨rfl, rfl⟩ := ret_of e
      exact v_iret hc_J14_signedHashCode rfl dJ14_signedHashCode_36 rfl rfl
    · refine v_bipush (pc' := 17) (v := 31) hc_J14_signedHashCode dJ14_signedHashCode_15 rfl rfl ?_
      refine v_iload_n (pc' := 18) hc_J14_signedHashCode dJ14_signedHashCode_17 rfl rfl 0 rfl ?_
      refine v_imul (pc' := 19) hc_J14_signedHashCode dJ14_signedHashCode_18 rfl ?_
      refine v_aload_n (pc' := 20) hc_J14_signedHashCode dJ14_signedHashCode_19 rfl rfl 1 rfl ?_
      refine v_iload (pc' := 22) hc_J14_signedHashCode dJ14_signedHashCode_20 rfl 3 rfl ?_
      refine v_bald (pc' := 23) hc_J14_signedHashCode dJ14_signedHashCode_22 rfl e (fun v1 _ e => ?_)
      refine v_sipush (pc' := 26) (v := 255) hc_J14_signedHashCode dJ14_signedHashCode_23 rfl rfl ?_
      refine v_iand (pc' := 27) hc_J14_signedHashCode dJ14_signedHashCode_26 rfl ?_
      refine v_iadd (pc' := 28) hc_J14_signedHashCode dJ14_signedHashCode_27 rfl ?_
      refine v_istore_n (pc' := 29) (lv' := [(0, .int (((31 : Int32) * x0) + (v1 &&& (255 : Int32)))), (1, .ref x1), (4, .int x4), (5, .int x5)]) hc_J14_signedHashCode dJ14_signedHashCode_28 rfl rfl (Nat.le_of_ble_eq_true rfl) rfl ?_
      refine v_iinc (pc' := 32) (lv' := [(5, .int (x5 + 1)), (0, .int (((31 : Int32) * x0) + (v1 &&& (255 : Int32)))), (1, .ref x1), (4, .int x4)]) (v := x5 + 1) hc_J14_signedHashCode dJ14_signedHashCode_29 rfl 3 rfl rfl (Nat.le_of_ble_eq_true rfl) rfl ?_
      refine v_goto (pt := 8) hc_J14_signedHashCode dJ14_signedHashCode_32 rfl ?_
      refine v_pick [1, 2, 3, 0] rfl ?_
      exact IH (((31 : Int32) * x0) + (v1 &&& (255 : Int32))) x1 x4 (x5 + 1) h e
def f_J14_signedHashCode (x0 : Int32) (x1 : Nat) (x2 : Int32) (x3 : Int32) (h : AH) : Option (Int32 × AH) :=
  f_J14_signedHashCode_l8 NN x0 x1 (x2 + x3) x2 h
theorem v_J14_signedHashCode (D : va_G) (l : Launch) (hl : l.stackTraces = false) (as : List Value) (h0 : AH) {r : Int32} {hF : AH} (x0 : Int32) (x1 : Nat) (x2 : Int32) (x3 : Int32) (h : AH) (e : f_J14_signedHashCode x0 x1 x2 x3 h = some (r, hF)) : V (G_J14_signedHashCode D l as h0 hF (oI r)) h 0 [(0, .int x0), (1, .ref x1), (2, .int x2), (3, .int x3)] [] := by
  unfold f_J14_signedHashCode at e
  refine v_iload_n (pc' := 1) hc_J14_signedHashCode dJ14_signedHashCode_0 rfl rfl 2 rfl ?_
  refine v_iload_n (pc' := 2) hc_J14_signedHashCode dJ14_signedHashCode_1 rfl rfl 3 rfl ?_
  refine v_iadd (pc' := 3) hc_J14_signedHashCode dJ14_signedHashCode_2 rfl ?_
  refine v_istore (pc' := 5) (lv' := [(4, .int (x2 + x3)), (0, .int x0), (1, .ref x1), (2, .int x2), (3, .int x3)]) hc_J14_signedHashCode dJ14_signedHashCode_3 rfl (Nat.le_of_ble_eq_true rfl) rfl ?_
  refine v_iload_n (pc' := 6) hc_J14_signedHashCode dJ14_signedHashCode_5 rfl rfl 3 rfl ?_
  refine v_istore (pc' := 8) (lv' := [(5, .int x2), (4, .int (x2 + x3)), (0, .int x0), (1, .ref x1), (2, .int x2), (3, .int x3)]) hc_J14_signedHashCode dJ14_signedHashCode_6 rfl (Nat.le_of_ble_eq_true rfl) rfl ?_
  refine v_pick [2, 3, 1, 0] rfl ?_
  exact w_J14_signedHashCode_l8 D l hl as h0 NN x0 x1 (x2 + x3) x2 h e
theorem w_J14_signedHashCode (D : va_G) (l : Launch) (hl : l.stackTraces = false) (x0 : Int32) (x1 : Nat) (x2 : Int32) (x3 : Int32) (h : AH) {r : Int32} {hF : AH} (e : f_J14_signedHashCode x0 x1 x2 x3 h = some (r, hF)) : MetV D l yJ14_signedHashCode (Cond.code yJ14_signedHashCode cJ14_signedHashCode 6 (Option.some .int)) 1 48 [.int x0, .ref x1, .int x2, .int x3] h hF (oI r) :=
  met_ofF (by decide +kernel) hl (Nat.le_of_ble_eq_true rfl) rfl (v_J14_signedHashCode D l hl [.int x0, .ref x1, .int x2, .int x3] h x0 x1 x2 x3 h e)
/-! jdk/internal/util/ArraysSupport.hashCode(I[BII)I  -/
abbrev G_J14_hashCode_2 (D : va_G) (l : Launch) (as : List Value) (h0 hF : AH) (o : Out) : CT := (D, l, (yJ14_hashCode_2.cls, yJ14_hashCode_2, cJ14_hashCode_2, 6, (Option.some .int), 1, 48, []), as, h0, hF, o)
theorem hc_J14_hashCode_2 {D : va_G} {l : Launch} {as : List Value} {h0 hF : AH} {o : Out} : gC (G_J14_hashCode_2 D l as h0 hF o) = cJ14_hashCode_2 := rfl
theorem ho_J14_hashCode_2 {D : va_G} {l : Launch} {as : List Value} {h0 hF : AH} {o : Out} : gO (G_J14_hashCode_2 D l as h0 hF o) = "jdk/internal/util/ArraysSupport" := rfl
theorem hp_J14_hashCode_2 {D : va_G} {l : Launch} {as : List Value} {h0 hF : AH} {o : Out} (pc : Nat) : ∀ z ∈ tableOf (gHd (G_J14_hashCode_2 D l as h0 hF o)), covers z pc = false := hpN
def fb_J14_hashCode_2_l8 (rec : Int32 → Nat → Int32 → Int32 → AH → Option (Int32 × AH)) (x0 : Int32) (x1 : Nat) (x4 : Int32) (x5 : Int32) (h : AH) : Option (Int32 × AH) :=
  if x4 ≤ x5 then (
    some (x0, h)
  ) else (
    bd (ldI h 3 x1 x5) fun v1 =>
    rec (((31 : Int32) * x0) + v1) x1 x4 (x5 + 1) h
  )
def f_J14_hashCode_2_l8 : Nat → Int32 → Nat → Int32 → Int32 → AH → Option (Int32 × AH)
  | 0 => fun _ _ _ _ _ => none
  | n + 1 => fb_J14_hashCode_2_l8 (f_J14_hashCode_2_l8 n) 
theorem w_J14_hashCode_2_l8 (D : va_G) (l : Launch) (hl : l.stackTraces = false) (as : List Value) (h0 : AH) {r : Int32} {hF : AH} : ∀ (n : Nat) (x0 : Int32) (x1 : Nat) (x4 : Int32) (x5 : Int32) (h : AH), f_J14_hashCode_2_l8 n x0 x1 x4 x5 h = some (r, hF) → V (G_J14_hashCode_2 D l as h0 hF (oI r)) h 8 [(0, .int x0), (1, .ref x1), (4, .int x4), (5, .int x5)] [] := by
  intro n; induction n with
  | zero => intro x0 x1 x4 x5 h e; exact absurd (show (none : Option (Int32 × AH)) = some _ from e) (fun z => nomatch z)
  | succ n IH =>
    intro x0 x1 x4 x5 h e
    have e : fb_J14_hashCode_2_l8 (f_J14_hashCode_2_l8 n) x0 x1 x4 x5 h = some (r, hF) := e
    unfold fb_J14_hashCode_2_l8 at e
    refine v_iload (pc' := 10) hc_J14_hashCode_2 dJ14_hashCode_2_8 rfl 3 rfl ?_
    refine v_iload (pc' := 12) hc_J14_hashCode_2 dJ14_hashCode_2_10 rfl 2 rfl ?_
    refine v_icmp_ge (pt := 31) (pf := 15) hc_J14_hashCode_2 dJ14_hashCode_2_12 rfl rfl e (fun _ e => ?_) (fun _ e => ?_)
    · refine v_iload_n (pc' := 32) hc_J14_hashCode_2 dJ14_hashCode_2_31 rfl rfl 0 rfl ?_
      obtain ⟨rfl, rfl⟩ := ret_of e
      exact v_iret hc_J14_hashCode_2 rfl dJ14_hashCode_2_32 rfl rfl
    · refine v_bipush (pc' := 17) (v := 31) hc_J14_hashCode_2 dJ14_hashCode_2_15 rfl rfl ?_
      refine v_iload_n (pc' := 18) hc_J14_hashCode_2 dJ14_hashCode_2_17 rfl rfl 0 rfl ?_
      refine v_imul (pc' := 19) hc_J14_hashCode_2 dJ14_hashCode_2_18 rfl ?_
      refine v_aload_n (pc' := 20) hc_J14_hashCode_2 dJ14_hashCode_2_19 rfl rfl 1 rfl ?_
      refine v_iload (pc' := 22) hc_J14_hashCode_2 dJ14_hashCode_2_20 rfl 3 rfl ?_
      refine v_bald (pc' := 23) hc_J14_hashCode_2 dJ14_hashCode_2_22 rfl e (fun v1 _ e => ?_)
      refine v_iadd (pc' := 24) hc_J14_hashCode_2 dJ14_hashCode_2_23 rfl ?_
      refine v_istore_n (pc' := 25) (lv' := [(0, .int (((31 : Int32) * x0) + v1)), (1, .ref x1), (4, .int x4), (5, .int x5)]) hc_J14_hashCode_2 dJ14_hashCode_2_24 rfl rfl (Nat.le_of_ble_eq_true rfl) rfl ?_
      refine v_iinc (pc' := 28) (lv' := [(5, .int (x5 + 1)), (0, .int (((31 : Int32) * x0) + v1)), (1, .ref x1), (4, .int x4)]) (v := x5 + 1) hc_J14_hashCode_2 dJ14_hashCode_2_25 rfl 3 rfl rfl (Nat.le_of_ble_eq_true rfl) rfl ?_
      refine v_goto (pt := 8) hc_J14_hashCode_2 dJ14_hashCode_2_28 rfl ?_
      refine v_pick [1, 2, 3, 0] rfl ?_
      exact IH (((31 : Int32) * x0) + v1) x1 x4 (x5 + 1) h e
def f_J14_hashCode_2 (x0 : Int32) (x1 : Nat) (x2 : Int32) (x3 : Int32) (h : AH) : Option (Int32 × AH) :=
  f_J14_hashCode_2_l8 NN x0 x1 (x2 + x3) x2 h
theorem v_J14_hashCode_2 (D : va_G) (l : Launch) (hl : l.stackTraces = false) (as : List Value) (h0 : AH) {r : Int32} {hF : AH} (x0 : Int32) (x1 : Nat) (x2 : Int32) (x3 : Int32) (h : AH) (e : f_J14_hashCode_2 x0 x1 x2 x3 h = some (r, hF)) : V (G_J14_hashCode_2 D l as h0 hF (oI r)) h 0 [(0, .int x0), (1, .ref x1), (2, .int x2), (3, .int x3)] [] := by
  unfold f_J14_hashCode_2 at e
  refine v_iload_n (pc' := 1) hc_J14_hashCode_2 dJ14_hashCode_2_0 rfl rfl 2 rfl ?_
  refine v_iload_n (pc' := 2) hc_J14_hashCode_2 dJ14_hashCode_2_1 rfl rfl 3 rfl ?_
  refine v_iadd (pc' := 3) hc_J14_hashCode_2 dJ14_hashCode_2_2 rfl ?_
  refine v_istore (pc' := 5) (lv' := [(4, .int (x2 + x3)), (0, .int x0), (1, .ref x1), (2, .int x2), (3, .int x3)]) hc_J14_hashCode_2 dJ14_hashCode_2_3 rfl (Nat.le_of_ble_eq_true rfl) rfl ?_
  refine v_iload_n (pc' := 6) hc_J14_hashCode_2 dJ14_hashCode_2_5 rfl rfl 3 rfl ?_
  refine v_istore (pc' := 8) (lv' := [(5, .int x2), (4, .int (x2 + x3)), (0, .int x0), (1, .ref x1), (2, .int x2), (3, .int x3)]) hc_J14_hashCode_2 dJ14_hashCode_2_6 rfl (Nat.le_of_ble_eq_true rfl) rfl ?_
  refine v_pick [2, 3, 1, 0] rfl ?_
  exact w_J14_hashCode_2_l8 D l hl as h0 NN x0 x1 (x2 + x3) x2 h e
theorem w_J14_hashCode_2 (D : va_G) (l : Launch) (hl : l.stackTraces = false) (x0 : Int32) (x1 : Nat) (x2 : Int32) (x3 : Int32) (h : AH) {r : Int32} {hF : AH} (e : f_J14_hashCode_2 x0 x1 x2 x3 h = some (r, hF)) : MetV D l yJ14_hashCode_2 (Cond.code yJ14_hashCode_2 cJ14_hashCode_2 6 (Option.some .int)) 1 48 [.int x0, .ref x1, .int x2, .int x3] h hF (oI r) :=
  met_ofF (by decide +kernel) hl (Nat.le_of_ble_eq_true rfl) rfl (v_J14_hashCode_2 D l hl [.int x0, .ref x1, .int x2, .int x3] h x0 x1 x2 x3 h e)
/-! jdk/internal/util/ArraysSupport.vectorizedHashCode(Ljava/lang/Object;IIII)I  -/
abbrev G_J14_vectorizedHashCode (D : va_G) (l : Launch) (as : List Value) (h0 hF : AH) (o : Out) : CT := (D, l, (yJ14_vectorizedHashCode.cls, yJ14_vectorizedHashCode, cJ14_vectorizedHashCode, 5, (Option.some .int), 2, 73, []), as, h0, hF, o)
theorem hc_J14_vectorizedHashCode {D : va_G} {l : Launch} {as : List Value} {h0 hF : AH} {o : Out} : gC (G_J14_vectorizedHashCode D l as h0 hF o) = cJ14_vectorizedHashCode := rfl
theorem ho_J14_vectorizedHashCode {D : va_G} {l : Launch} {as : List Value} {h0 hF : AH} {o : Out} : gO (G_J14_vectorizedHashCode D l as h0 hF o) = "jdk/internal/util/ArraysSupport" := rfl
theorem hp_J14_vectorizedHashCode {D : va_G} {l : Launch} {as : List Value} {h0 hF : AH} {o : Out} (pc : Nat) : ∀ z ∈ tableOf (gHd (G_J14_vectorizedHashCode D l as h0 hF o)), covers z pc = false := hpN
def f_J14_vectorizedHashCode (x0 : Nat) (x1 : Int32) (x2 : Int32) (x3 : Int32) (x4 : Int32) (h : AH) : Option (Int32 × AH) :=
  if x4 = 4 then (
    gd (isAr h 3 x0) <|
    bd2 (f_J14_signedHashCode x3 x0 x1 x2 h) fun r2 h3 =>
    some (r2, h3)
  ) else (
  if x4 = 5 then (
    gd (isAr h 3 x0) <|
    gd (isAr h 3 x0) <|
    none
  ) else (
  if x4 = 8 then (
    gd (isAr h 3 x0) <|
    bd2 (f_J14_hashCode_2 x3 x0 x1 x2 h) fun r10 h11 =>
    some (r10, h11)
  ) else (
  if x4 = 9 then (
    none
  ) else (
  if x4 = 10 then (
    none
  ) else (
  none
  )))))
theorem v_J14_vectorizedHashCode (D : va_G) (l : Launch) (hl : l.stackTraces = false) (as : List Value) (h0 : AH) {r : Int32} {hF : AH} (x0 : Nat) (x1 : Int32) (x2 : Int32) (x3 : Int32) (x4 : Int32) (h : AH) (e : f_J14_vectorizedHashCode x0 x1 x2 x3 x4 h = some (r, hF)) : V (G_J14_vectorizedHashCode D l as h0 hF (oI r)) h 0 [(0, .ref x0), (1, .int x1), (2, .int x2), (3, .int x3), (4, .int x4)] [] := by
  unfold f_J14_vectorizedHashCode at e
  refine v_iload (pc' := 2) hc_J14_vectorizedHashCode dJ14_vectorizedHashCode_0 rfl 4 rfl ?_
  rcases ite_cs e with ⟨n5, e⟩ | ⟨n5, e⟩
  · refine v_tbl (off := 42) (pt := 44) hc_J14_vectorizedHashCode dJ14_vectorizedHashCode_2 rfl rfl (by rw [n5]; rfl) rfl ?_
    refine v_iload_n (pc' := 45) hc_J14_vectorizedHashCode dJ14_vectorizedHashCode_44 rfl rfl 3 rfl ?_
    refine v_aload_n (pc' := 46) hc_J14_vectorizedHashCode dJ14_vectorizedHashCode_45 rfl rfl 0 rfl ?_
    obtain ⟨c1, e⟩ := gd_of e
    refine v_castA (pc' := 49) (k := 3) hc_J14_vectorizedHashCode ho_J14_vectorizedHashCode q1020 dJ14_vectorizedHashCode_46 rfl c1 rfl (by decide) ?_
    refine v_iload_n (pc' := 50) hc_J14_vectorizedHashCode dJ14_vectorizedHashCode_49 rfl rfl 1 rfl ?_
    refine v_iload_n (pc' := 51) hc_J14_vectorizedHashCode dJ14_vectorizedHashCode_50 rfl rfl 2 rfl ?_
    obtain ⟨r2, h3, e4, e⟩ := bd2_of e
    refine k_S (pc' := 54) (n := 4) hc_J14_vectorizedHashCode ho_J14_vectorizedHashCode (w_J14_signedHashCode D l hl x3 x0 x1 x2 h e4) (wA_l q1021) q1022 q94 q1023 hy_32 ⟨Nat.le_of_ble_eq_true rfl, Nat.le_of_ble_eq_true rfl⟩ rfl rfl (Nat.le_of_ble_eq_true rfl) dJ14_vectorizedHashCode_51 rfl (kS ?_) kN
    refine v_goto (pt := 157) hc_J14_vectorizedHashCode dJ14_vectorizedHashCode_54 rfl ?_
    obtain ⟨rfl, rfl⟩ := ret_of e
    exact v_iret hc_J14_vectorizedHashCode rfl dJ14_vectorizedHashCode_157 rfl rfl
  rcases ite_cs e with ⟨n8, e⟩ | ⟨n8, e⟩
  · refine v_tbl (off := 55) (pt := 57) hc_J14_vectorizedHashCode dJ14_vectorizedHashCode_2 rfl rfl (by rw [n8]; rfl) rfl ?_
    refine v_aload_n (pc' := 58) hc_J14_vectorizedHashCode dJ14_vectorizedHashCode_57 rfl rfl 0 rfl ?_
    obtain ⟨c6, e⟩ := gd_of e
    refine v_instA (pc' := 61) (k := 3) hc_J14_vectorizedHashCode ho_J14_vectorizedHashCode q1020 dJ14_vectorizedHashCode_58 rfl c6 rfl (by decide) ?_
    refine v_if_eqF (pt := 77) (pf := 64) hc_J14_vectorizedHashCode dJ14_vectorizedHashCode_61 rfl rfl (by decide) ?_
    refine v_iload_n (pc' := 65) hc_J14_vectorizedHashCode dJ14_vectorizedHashCode_64 rfl rfl 3 rfl ?_
    refine v_aload_n (pc' := 66) hc_J14_vectorizedHashCode dJ14_vectorizedHashCode_65 rfl rfl 0 rfl ?_
    obtain ⟨c7, e⟩ := gd_of e
    refine v_castA (pc' := 69) (k := 3) hc_J14_vectorizedHashCode ho_J14_vectorizedHashCode q1020 dJ14_vectorizedHashCode_66 rfl c7 rfl (by decide) ?_
    refine v_iload_n (pc' := 70) hc_J14_vectorizedHashCode dJ14_vectorizedHashCode_69 rfl rfl 1 rfl ?_
    refine v_iload_n (pc' := 71) hc_J14_vectorizedHashCode dJ14_vectorizedHashCode_70 rfl rfl 2 rfl ?_
    exact nomatch e
  rcases ite_cs e with ⟨n13, e⟩ | ⟨n13, e⟩
  · refine v_tbl (off := 88) (pt := 90) hc_J14_vectorizedHashCode dJ14_vectorizedHashCode_2 rfl rfl (by rw [n13]; rfl) rfl ?_
    refine v_iload_n (pc' := 91) hc_J14_vectorizedHashCode dJ14_vectorizedHashCode_90 rfl rfl 3 rfl ?_
    refine v_aload_n (pc' := 92) hc_J14_vectorizedHashCode dJ14_vectorizedHashCode_91 rfl rfl 0 rfl ?_
    obtain ⟨c9, e⟩ := gd_of e
    refine v_castA (pc' := 95) (k := 3) hc_J14_vectorizedHashCode ho_J14_vectorizedHashCode q1020 dJ14_vectorizedHashCode_92 rfl c9 rfl (by decide) ?_
    refine v_iload_n (pc' := 96) hc_J14_vectorizedHashCode dJ14_vectorizedHashCode_95 rfl rfl 1 rfl ?_
    refine v_iload_n (pc' := 97) hc_J14_vectorizedHashCode dJ14_vectorizedHashCode_96 rfl rfl 2 rfl ?_
    obtain ⟨r10, h11, e12, e⟩ := bd2_of e
    refine k_S (pc' := 100) (n := 4) hc_J14_vectorizedHashCode ho_J14_vectorizedHashCode (w_J14_hashCode_2 D l hl x3 x0 x1 x2 h e12) (wA_l q1044) q1045 q94 q1046 hy_33 ⟨Nat.le_of_ble_eq_true rfl, Nat.le_of_ble_eq_true rfl⟩ rfl rfl (Nat.le_of_ble_eq_true rfl) dJ14_vectorizedHashCode_97 rfl (kS ?_) kN
    refine v_goto (pt := 157) hc_J14_vectorizedHashCode dJ14_vectorizedHashCode_100 rfl ?_
    obtain ⟨rfl, rfl⟩ := ret_of e
    exact v_iret hc_J14_vectorizedHashCode rfl dJ14_vectorizedHashCode_157 rfl rfl
  rcases ite_cs e with ⟨n14, e⟩ | ⟨n14, e⟩
  · refine v_tbl (off := 101) (pt := 103) hc_J14_vectorizedHashCode dJ14_vectorizedHashCode_2 rfl rfl (by rw [n14]; rfl) rfl ?_
    refine v_iload_n (pc' := 104) hc_J14_vectorizedHashCode dJ14_vectorizedHashCode_103 rfl rfl 3 rfl ?_
    refine v_aload_n (pc' := 105) hc_J14_vectorizedHashCode dJ14_vectorizedHashCode_104 rfl rfl 0 rfl ?_
    exact nomatch e
  rcases ite_cs e with ⟨n15, e⟩ | ⟨n15, e⟩
  · refine v_tbl (off := 114) (pt := 116) hc_J14_vectorizedHashCode dJ14_vectorizedHashCode_2 rfl rfl (by rw [n15]; rfl) rfl ?_
    refine v_iload_n (pc' := 117) hc_J14_vectorizedHashCode dJ14_vectorizedHashCode_116 rfl rfl 3 rfl ?_
    refine v_aload_n (pc' := 118) hc_J14_vectorizedHashCode dJ14_vectorizedHashCode_117 rfl rfl 0 rfl ?_
    exact nomatch e
  refine v_tbl (off := 127) (pt := 129) hc_J14_vectorizedHashCode dJ14_vectorizedHashCode_2 rfl rfl (lk_c (lk_n n5 rfl) (lk_c (lk_n n8 rfl) (lk_d (lk_d (lk_c (lk_n n13 rfl) (lk_c (lk_n n14 rfl) (lk_c (lk_n n15 rfl) lk_z))))))) rfl ?_
  exact nomatch e
theorem w_J14_vectorizedHashCode (D : va_G) (l : Launch) (hl : l.stackTraces = false) (x0 : Nat) (x1 : Int32) (x2 : Int32) (x3 : Int32) (x4 : Int32) (h : AH) {r : Int32} {hF : AH} (e : f_J14_vectorizedHashCode x0 x1 x2 x3 x4 h = some (r, hF)) : MetV D l yJ14_vectorizedHashCode (Cond.code yJ14_vectorizedHashCode cJ14_vectorizedHashCode 5 (Option.some .int)) 2 73 [.ref x0, .int x1, .int x2, .int x3, .int x4] h hF (oI r) :=
  met_ofF (by decide +kernel) hl (Nat.le_of_ble_eq_true rfl) rfl (v_J14_vectorizedHashCode D l hl [.ref x0, .int x1, .int x2, .int x3, .int x4] h x0 x1 x2 x3 x4 h e)
/-! java/lang/StringLatin1.hashCode([B)I  -/
abbrev G_J17_hashCode (D : va_G) (l : Launch) (as : List Value) (h0 hF : AH) (o : Out) : CT := (D, l, (yJ17_hashCode.cls, yJ17_hashCode, cJ17_hashCode, 1, (Option.some .int), 3, 97, []), as, h0, hF, o)
theorem hc_J17_hashCode {D : va_G} {l : Launch} {as : List Value} {h0 hF : AH} {o : Out} : gC (G_J17_hashCode D l as h0 hF o) = cJ17_hashCode := rfl
theorem ho_J17_hashCode {D : va_G} {l : Launch} {as : List Value} {h0 hF : AH} {o : Out} : gO (G_J17_hashCode D l as h0 hF o) = "java/lang/StringLatin1" := rfl
theorem hp_J17_hashCode {D : va_G} {l : Launch} {as : List Value} {h0 hF : AH} {o : Out} (pc : Nat) : ∀ z ∈ tableOf (gHd (G_J17_hashCode D l as h0 hF o)), covers z pc = false := hpN
def f_J17_hashCode (x0 : Nat) (h : AH) : Option (Int32 × AH) :=
  bd (aLn h x0) fun v1 =>
  if v1 = 0 then (
    some ((0 : Int32), h)
  ) else (
  if v1 = 1 then (
    bd (ldI h 3 x0 (0 : Int32)) fun v3 =>
    some ((v3 &&& (255 : Int32)), h)
  ) else (
  bd (aLn h x0) fun v5 =>
  bd2 (f_J14_vectorizedHashCode x0 (0 : Int32) v5 (0 : Int32) (4 : Int32) h) fun r6 h7 =>
  some (r6, h7)
  ))
theorem v_J17_hashCode (D : va_G) (l : Launch) (hl : l.stackTraces = false) (as : List Value) (h0 : AH) {r : Int32} {hF : AH} (x0 : Nat) (h : AH) (e : f_J17_hashCode x0 h = some (r, hF)) : V (G_J17_hashCode D l as h0 hF (oI r)) h 0 [(0, .ref x0)] [] := by
  unfold f_J17_hashCode at e
  refine v_aload_n (pc' := 1) hc_J17_hashCode dJ17_hashCode_0 rfl rfl 0 rfl ?_
  refine v_alen (pc' := 2) hc_J17_hashCode dJ17_hashCode_1 rfl e (fun v1 _ e => ?_)
  rcases ite_cs e with ⟨n2, e⟩ | ⟨n2, e⟩
  · refine v_lookup (off := 26) (pt := 28) hc_J17_hashCode dJ17_hashCode_2 (by decide) (by rw [n2]; rfl) rfl ?_
    refine v_iconst (pc' := 29) (v := 0) hc_J17_hashCode dJ17_hashCode_28 rfl rfl ?_
    refine v_goto (pt := 51) hc_J17_hashCode dJ17_hashCode_29 rfl ?_
    obtain ⟨rfl, rfl⟩ := ret_of e
    exact v_iret hc_J17_hashCode rfl dJ17_hashCode_51 rfl rfl
  rcases ite_cs e with ⟨n4, e⟩ | ⟨n4, e⟩
  · refine v_lookup (off := 30) (pt := 32) hc_J17_hashCode dJ17_hashCode_2 (by decide) (by rw [n4]; rfl) rfl ?_
    refine v_aload_n (pc' := 33) hc_J17_hashCode dJ17_hashCode_32 rfl rfl 0 rfl ?_
    refine v_iconst (pc' := 34) (v := 0) hc_J17_hashCode dJ17_hashCode_33 rfl rfl ?_
    refine v_bald (pc' := 35) hc_J17_hashCode dJ17_hashCode_34 rfl e (fun v3 _ e => ?_)
    refine v_sipush (pc' := 38) (v := 255) hc_J17_hashCode dJ17_hashCode_35 rfl rfl ?_
    refine v_iand (pc' := 39) hc_J17_hashCode dJ17_hashCode_38 rfl ?_
    refine v_goto (pt := 51) hc_J17_hashCode dJ17_hashCode_39 rfl ?_
    obtain ⟨rfl, rfl⟩ := ret_of e
    exact v_iret hc_J17_hashCode rfl dJ17_hashCode_51 rfl rfl
  refine v_lookup (off := 40) (pt := 42) hc_J17_hashCode dJ17_hashCode_2 (by decide) (lk_c (lk_n n2 rfl) (lk_c (lk_n n4 rfl) lk_z)) rfl ?_
  refine v_aload_n (pc' := 43) hc_J17_hashCode dJ17_hashCode_42 rfl rfl 0 rfl ?_
  refine v_iconst (pc' := 44) (v := 0) hc_J17_hashCode dJ17_hashCode_43 rfl rfl ?_
  refine v_aload_n (pc' := 45) hc_J17_hashCode dJ17_hashCode_44 rfl rfl 0 rfl ?_
  refine v_alen (pc' := 46) hc_J17_hashCode dJ17_hashCode_45 rfl e (fun v5 _ e => ?_)
  refine v_iconst (pc' := 47) (v := 0) hc_J17_hashCode dJ17_hashCode_46 rfl rfl ?_
  refine v_iconst (pc' := 48) (v := 4) hc_J17_hashCode dJ17_hashCode_47 rfl rfl ?_
  obtain ⟨r6, h7, e8, e⟩ := bd2_of e
  refine k_S (pc' := 51) (n := 5) hc_J17_hashCode ho_J17_hashCode (w_J14_vectorizedHashCode D l hl x0 (0 : Int32) v5 (0 : Int32) (4 : Int32) h e8) (wA_l q1017) q1018 q94 q1019 hy_34 ⟨Nat.le_of_ble_eq_true rfl, Nat.le_of_ble_eq_true rfl⟩ rfl rfl (Nat.le_of_ble_eq_true rfl) dJ17_hashCode_48 rfl (kS ?_) kN
  obtain ⟨rfl, rfl⟩ := ret_of e
  exact v_iret hc_J17_hashCode rfl dJ17_hashCode_51 rfl rfl
theorem w_J17_hashCode (D : va_G) (l : Launch) (hl : l.stackTraces = false) (x0 : Nat) (h : AH) {r : Int32} {hF : AH} (e : f_J17_hashCode x0 h = some (r, hF)) : MetV D l yJ17_hashCode (Cond.code yJ17_hashCode cJ17_hashCode 1 (Option.some .int)) 3 97 [.ref x0] h hF (oI r) :=
  met_ofF (by decide +kernel) hl (Nat.le_of_ble_eq_true rfl) rfl (v_J17_hashCode D l hl [.ref x0] h x0 h e)
/-! java/lang/String.hashCode()I  -/
abbrev G_J6_hashCode (D : va_G) (l : Launch) (as : List Value) (h0 hF : AH) (o : Out) : CT := (D, l, (yJ6_hashCode.cls, yJ6_hashCode, cJ6_hashCode, 2, (Option.some .int), 4, 117, []), as, h0, hF, o)
theorem hc_J6_hashCode {D : va_G} {l : Launch} {as : List Value} {h0 hF : AH} {o : Out} : gC (G_J6_hashCode D l as h0 hF o) = cJ6_hashCode := rfl
theorem ho_J6_hashCode {D : va_G} {l : Launch} {as : List Value} {h0 hF : AH} {o : Out} : gO (G_J6_hashCode D l as h0 hF o) = "java/lang/String" := rfl
theorem hp_J6_hashCode {D : va_G} {l : Launch} {as : List Value} {h0 hF : AH} {o : Out} (pc : Nat) : ∀ z ∈ tableOf (gHd (G_J6_hashCode D l as h0 hF o)), covers z pc = false := hpN
def f_J6_hashCode_j40 (x0 : Nat) (s0 : Int32) (h : AH) : Option (Int32 × AH) :=
  if s0 = 0 then (
    bd (stF h 19 x0 3 (.int (1 : Int32))) fun h1 =>
    some (s0, h1)
  ) else (
    bd (stF h 19 x0 2 (.int s0)) fun h2 =>
    some (s0, h2)
  )
theorem w_J6_hashCode_j40 (D : va_G) (l : Launch) (hl : l.stackTraces = false) (as : List Value) (h0 : AH) {r : Int32} {hF : AH} (x0 : Nat) (s0 : Int32) (h : AH) (e : f_J6_hashCode_j40 x0 s0 h = some (r, hF)) : V (G_J6_hashCode D l as h0 hF (oI r)) h 40 [(0, .ref x0)] [.int s0] := by
  unfold f_J6_hashCode_j40 at e
  refine v_istore_n (pc' := 41) (lv' := [(1, .int s0), (0, .ref x0)]) hc_J6_hashCode dJ6_hashCode_40 rfl rfl (Nat.le_of_ble_eq_true rfl) rfl ?_
  refine v_iload_n (pc' := 42) hc_J6_hashCode dJ6_hashCode_41 rfl rfl 0 rfl ?_
  refine v_if_ne (pt := 53) (pf := 45) hc_J6_hashCode dJ6_hashCode_42 rfl rfl e (fun _ e => ?_) (fun _ e => ?_)
  · refine v_aload_n (pc' := 46) hc_J6_hashCode dJ6_hashCode_45 rfl rfl 1 rfl ?_
    refine v_iconst (pc' := 47) (v := 1) hc_J6_hashCode dJ6_hashCode_46 rfl rfl ?_
    refine v_pf (pc' := 50) hc_J6_hashCode ho_J6_hashCode KJ6 3 (Nat.le_of_ble_eq_true rfl) q796 (Or.inl rfl) rfl dJ6_hashCode_47 rfl rfl rfl e (fun h1 _ e => ?_)
    refine v_goto (pt := 58) hc_J6_hashCode dJ6_hashCode_50 rfl ?_
    refine v_iload_n (pc' := 59) hc_J6_hashCode dJ6_hashCode_58 rfl rfl 0 rfl ?_
    obtain ⟨rfl, rfl⟩ := ret_of e
    exact v_iret hc_J6_hashCode rfl dJ6_hashCode_59 rfl rfl
  · refine v_aload_n (pc' := 54) hc_J6_hashCode dJ6_hashCode_53 rfl rfl 1 rfl ?_
    refine v_iload_n (pc' := 55) hc_J6_hashCode dJ6_hashCode_54 rfl rfl 0 rfl ?_
    refine v_pf (pc' := 58) hc_J6_hashCode ho_J6_hashCode KJ6 2 (Nat.le_of_ble_eq_true rfl) q795 (Or.inl rfl) rfl dJ6_hashCode_55 rfl rfl rfl e (fun h2 _ e => ?_)
    refine v_iload_n (pc' := 59) hc_J6_hashCode dJ6_hashCode_58 rfl rfl 0 rfl ?_
    obtain ⟨rfl, rfl⟩ := ret_of e
    exact v_iret hc_J6_hashCode rfl dJ6_hashCode_59 rfl rfl
def f_J6_hashCode (x0 : Nat) (h : AH) : Option (Int32 × AH) :=
  bd (gtI h 19 x0 2) fun v1 =>
  if v1 = 0 then (
    bd (gtI h 19 x0 3) fun v2 =>
    if v2 = 0 then (
      gd (isC h 19 x0) <|
      bd2 (f_J6_isLatin1 x0 h) fun r4 h5 =>
      if r4 = 0 then (
        bd (gtR h5 19 x0 0) fun v7 =>
        none
      ) else (
        bd (gtR h5 19 x0 0) fun v8 =>
        bd2 (f_J17_hashCode v8 h5) fun r9 h10 =>
        f_J6_hashCode_j40 x0 r9 h10
      )
    ) else (
      some (v1, h)
    )
  ) else (
    some (v1, h)
  )
theorem v_J6_hashCode (D : va_G) (l : Launch) (hl : l.stackTraces = false) (as : List Value) (h0 : AH) {r : Int32} {hF : AH} (x0 : Nat) (h : AH) (e : f_J6_hashCode x0 h = some (r, hF)) : V (G_J6_hashCode D l as h0 hF (oI r)) h 0 [(0, .ref x0)] [] := by
  unfold f_J6_hashCode at e
  refine v_aload_n (pc' := 1) hc_J6_hashCode dJ6_hashCode_0 rfl rfl 0 rfl ?_
  refine v_gfI (pc' := 4) hc_J6_hashCode ho_J6_hashCode KJ6 2 (Nat.le_of_ble_eq_true rfl) q795 (Or.inl rfl) dJ6_hashCode_1 rfl e (fun v1 _ e => ?_)
  refine v_istore_n (pc' := 5) (lv' := [(1, .int v1), (0, .ref x0)]) hc_J6_hashCode dJ6_hashCode_4 rfl rfl (Nat.le_of_ble_eq_true rfl) rfl ?_
  refine v_iload_n (pc' := 6) hc_J6_hashCode dJ6_hashCode_5 rfl rfl 0 rfl ?_
  refine v_if_ne (pt := 58) (pf := 9) hc_J6_hashCode dJ6_hashCode_6 rfl rfl e (fun _ e => ?_) (fun _ e => ?_)
  · refine v_aload_n (pc' := 10) hc_J6_hashCode dJ6_hashCode_9 rfl rfl 1 rfl ?_
    refine v_gfI (pc' := 13) hc_J6_hashCode ho_J6_hashCode KJ6 3 (Nat.le_of_ble_eq_true rfl) q796 (Or.inl rfl) dJ6_hashCode_10 rfl e (fun v2 _ e => ?_)
    refine v_if_ne (pt := 58) (pf := 16) hc_J6_hashCode dJ6_hashCode_13 rfl rfl e (fun _ e => ?_) (fun _ e => ?_)
    · refine v_aload_n (pc' := 17) hc_J6_hashCode dJ6_hashCode_16 rfl rfl 1 rfl ?_
      obtain ⟨c3, e⟩ := gd_of e
      obtain ⟨r4, h5, e6, e⟩ := bd2_of e
      refine k_V (pc' := 20) (ci := 19) (n := 0) hc_J6_hashCode ho_J6_hashCode rfl c3 (w_J6_isLatin1 D l hl x0 h e6) (wA_l q1010) q1011 (wA_l q1012) q83 q1013 hy_31 ⟨Nat.le_of_ble_eq_true rfl, Nat.le_of_ble_eq_true rfl⟩ rfl rfl (Nat.le_of_ble_eq_true rfl) dJ6_hashCode_17 rfl (kS ?_) kN
      refine v_if_eq (pt := 33) (pf := 23) hc_J6_hashCode dJ6_hashCode_20 rfl rfl e (fun _ e => ?_) (fun _ e => ?_)
      · refine v_aload_n (pc' := 34) hc_J6_hashCode dJ6_hashCode_33 rfl rfl 1 rfl ?_
        refine v_gfR (pc' := 37) hc_J6_hashCode ho_J6_hashCode KJ6 0 (Nat.le_of_ble_eq_true rfl) q793 (Or.inl rfl) dJ6_hashCode_34 rfl e (fun v7 _ e => ?_)
        exact nomatch e
      · refine v_aload_n (pc' := 24) hc_J6_hashCode dJ6_hashCode_23 rfl rfl 1 rfl ?_
        refine v_gfR (pc' := 27) hc_J6_hashCode ho_J6_hashCode KJ6 0 (Nat.le_of_ble_eq_true rfl) q793 (Or.inl rfl) dJ6_hashCode_24 rfl e (fun v8 _ e => ?_)
        obtain ⟨r9, h10, e11, e⟩ := bd2_of e
        refine k_S (pc' := 30) (n := 1) hc_J6_hashCode ho_J6_hashCode (w_J17_hashCode D l hl v8 h5 e11) (wA_l q1014) q1015 q98 q1016 hy_35 ⟨Nat.le_of_ble_eq_true rfl, Nat.le_of_ble_eq_true rfl⟩ rfl rfl (Nat.le_of_ble_eq_true rfl) dJ6_hashCode_27 rfl (kS ?_) kN
        refine v_goto (pt := 40) hc_J6_hashCode dJ6_hashCode_30 rfl ?_
        refine v_pick [1] rfl ?_
        exact w_J6_hashCode_j40 D l hl as h0 x0 r9 h10 e
    · refine v_iload_n (pc' := 59) hc_J6_hashCode dJ6_hashCode_58 rfl rfl 0 rfl ?_
      obtain ⟨rfl, rfl⟩ := ret_of e
      exact v_iret hc_J6_hashCode rfl dJ6_hashCode_59 rfl rfl
  · refine v_iload_n (pc' := 59) hc_J6_hashCode dJ6_hashCode_58 rfl rfl 0 rfl ?_
    obtain ⟨rfl, rfl⟩ := ret_of e
    exact v_iret hc_J6_hashCode rfl dJ6_hashCode_59 rfl rfl
theorem w_J6_hashCode (D : va_G) (l : Launch) (hl : l.stackTraces = false) (x0 : Nat) (h : AH) {r : Int32} {hF : AH} (e : f_J6_hashCode x0 h = some (r, hF)) : MetV D l yJ6_hashCode (Cond.code yJ6_hashCode cJ6_hashCode 2 (Option.some .int)) 4 117 [.ref x0] h hF (oI r) :=
  met_ofF (by decide +kernel) hl (Nat.le_of_ble_eq_true rfl) rfl (v_J6_hashCode D l hl [.ref x0] h x0 h e)
/-! java/lang/StringLatin1.equals([B[B)Z  -/
abbrev G_J17_equals (D : va_G) (l : Launch) (as : List Value) (h0 hF : AH) (o : Out) : CT := (D, l, (yJ17_equals.cls, yJ17_equals, cJ17_equals, 3, (Option.some .boolean), 1, 48, []), as, h0, hF, o)
theorem hc_J17_equals {D : va_G} {l : Launch} {as : List Value} {h0 hF : AH} {o : Out} : gC (G_J17_equals D l as h0 hF o) = cJ17_equals := rfl
theorem ho_J17_equals {D : va_G} {l : Launch} {as : List Value} {h0 hF : AH} {o : Out} : gO (G_J17_equals D l as h0 hF o) = "java/lang/StringLatin1" := rfl
theorem hp_J17_equals {D : va_G} {l : Launch} {as : List Value} {h0 hF : AH} {o : Out} (pc : Nat) : ∀ z ∈ tableOf (gHd (G_J17_equals D l as h0 hF o)), covers z pc = false := hpN
def fb_J17_equals_l9 (rec : Nat → Nat → Int32 → AH → Option (Int32 × AH)) (x0 : Nat) (x1 : Nat) (x2 : Int32) (h : AH) : Option (Int32 × AH) :=
  bd (aLn h x0) fun v1 =>
  if v1 ≤ x2 then (
    some ((1 : Int32), h)
  ) else (
    bd (ldI h 3 x0 x2) fun v2 =>
    bd (ldI h 3 x1 x2) fun v3 =>
    if v2 = v3 then (
      rec x0 x1 (x2 + 1) h
    ) else (
      some ((0 : Int32), h)
    )
  )
def f_J17_equals_l9 : Nat → Nat → Nat → Int32 → AH → Option (Int32 × AH)
  | 0 => fun _ _ _ _ => none
  | n + 1 => fb_J17_equals_l9 (f_J17_equals_l9 n) 
theorem w_J17_equals_l9 (D : va_G) (l : Launch) (hl : l.stackTraces = false) (as : List Value) (h0 : AH) {r : Int32} {hF : AH} : ∀ (n : Nat) (x0 : Nat) (x1 : Nat) (x2 : Int32) (h : AH), f_J17_equals_l9 n x0 x1 x2 h = some (r, hF) → V (G_J17_equals D l as h0 hF (oI r)) h 9 [(0, .ref x0), (1, .ref x1), (2, .int x2)] [] := by
  intro n; induction n with
  | zero => intro x0 x1 x2 h e; exact absurd (show (none : Option (Int32 × AH)) = some _ from e) (fun z => nomatch z)
  | succ n IH =>
    intro x0 x1 x2 h e
    have e : fb_J17_equals_l9 (f_J17_equals_l9 n) x0 x1 x2 h = some (r, hF) := e
    unfold fb_J17_equals_l9 at e
    refine v_iload_n (pc' := 10) hc_J17_equals dJ17_equals_9 rfl rfl 2 rfl ?_
    refine v_aload_n (pc' := 11) hc_J17_equals dJ17_equals_10 rfl rfl 0 rfl ?_
    refine v_alen (pc' := 12) hc_J17_equals dJ17_equals_11 rfl e (fun v1 _ e => ?_)
    refine v_icmp_ge (pt := 32) (pf := 15) hc_J17_equals dJ17_equals_12 rfl rfl e (fun _ e => ?_) (fun _ e => ?_)
    · refine v_iconst (pc' := 33) (v := 1) hc_J17_equals dJ17_equals_32 rfl rfl ?_
      obtain ⟨rfl, rfl⟩ := ret_of e
      exact v_zret hc_J17_equals rfl (ft := .boolean) rfl dJ17_equals_33 rfl rfl
    · refine v_aload_n (pc' := 16) hc_J17_equals dJ17_equals_15 rfl rfl 0 rfl ?_
      refine v_iload_n (pc' := 17) hc_J17_equals dJ17_equals_16 rfl rfl 2 rfl ?_
      refine v_bald (pc' := 18) hc_J17_equals dJ17_equals_17 rfl e (fun v2 _ e => ?_)
      refine v_aload_n (pc' := 19) hc_J17_equals dJ17_equals_18 rfl rfl 1 rfl ?_
      refine v_iload_n (pc' := 20) hc_J17_equals dJ17_equals_19 rfl rfl 2 rfl ?_
      refine v_bald (pc' := 21) hc_J17_equals dJ17_equals_20 rfl e (fun v3 _ e => ?_)
      refine v_icmp_eq (pt := 26) (pf := 24) hc_J17_equals dJ17_equals_21 rfl rfl e (fun _ e => ?_) (fun _ e => ?_)
      · refine v_iinc (pc' := 29) (lv' := [(2, .int (x2 + 1)), (0, .ref x0), (1, .ref x1)]) (v := x2 + 1) hc_J17_equals dJ17_equals_26 rfl 2 rfl rfl (Nat.le_of_ble_eq_true rfl) rfl ?_
        refine v_goto (pt := 9) hc_J17_equals dJ17_equals_29 rfl ?_
        refine v_pick [1, 2, 0] rfl ?_
        exact IH x0 x1 (x2 + 1) h e
      · refine v_iconst (pc' := 25) (v := 0) hc_J17_equals dJ17_equals_24 rfl rfl ?_
        obtain ⟨rfl, rfl⟩ := ret_of e
        exact v_zret hc_J17_equals rfl (ft := .boolean) rfl dJ17_equals_25 rfl rfl
def f_J17_equals (x0 : Nat) (x1 : Nat) (h : AH) : Option (Int32 × AH) :=
  bd (aLn h x0) fun v1 =>
  bd (aLn h x1) fun v2 =>
  if v1 = v2 then (
    f_J17_equals_l9 NN x0 x1 (0 : Int32) h
  ) else (
    some ((0 : Int32), h)
  )
theorem v_J17_equals (D : va_G) (l : Launch) (hl : l.stackTraces = false) (as : List Value) (h0 : AH) {r : Int32} {hF : AH} (x0 : Nat) (x1 : Nat) (h : AH) (e : f_J17_equals x0 x1 h = some (r, hF)) : V (G_J17_equals D l as h0 hF (oI r)) h 0 [(0, .ref x0), (1, .ref x1)] [] := by
  unfold f_J17_equals at e
  refine v_aload_n (pc' := 1) hc_J17_equals dJ17_equals_0 rfl rfl 0 rfl ?_
  refine v_alen (pc' := 2) hc_J17_equals dJ17_equals_1 rfl e (fun v1 _ e => ?_)
  refine v_aload_n (pc' := 3) hc_J17_equals dJ17_equals_2 rfl rfl 1 rfl ?_
  refine v_alen (pc' := 4) hc_J17_equals dJ17_equals_3 rfl e (fun v2 _ e => ?_)
  refine v_icmp_ne (pt := 34) (pf := 7) hc_J17_equals dJ17_equals_4 rfl rfl e (fun _ e => ?_) (fun _ e => ?_)
  · refine v_iconst (pc' := 8) (v := 0) hc_J17_equals dJ17_equals_7 rfl rfl ?_
    refine v_istore_n (pc' := 9) (lv' := [(2, .int (0 : Int32)), (0, .ref x0), (1, .ref x1)]) hc_J17_equals dJ17_equals_8 rfl rfl (Nat.le_of_ble_eq_true rfl) rfl ?_
    refine v_pick [1, 2, 0] rfl ?_
    exact w_J17_equals_l9 D l hl as h0 NN x0 x1 (0 : Int32) h e
  · refine v_iconst (pc' := 35) (v := 0) hc_J17_equals dJ17_equals_34 rfl rfl ?_
    obtain ⟨rfl, rfl⟩ := ret_of e
    exact v_zret hc_J17_equals rfl (ft := .boolean) rfl dJ17_equals_35 rfl rfl
theorem w_J17_equals (D : va_G) (l : Launch) (hl : l.stackTraces = false) (x0 : Nat) (x1 : Nat) (h : AH) {r : Int32} {hF : AH} (e : f_J17_equals x0 x1 h = some (r, hF)) : MetV D l yJ17_equals (Cond.code yJ17_equals cJ17_equals 3 (Option.some .boolean)) 1 48 [.ref x0, .ref x1] h hF (oI r) :=
  met_ofF (by decide +kernel) hl (Nat.le_of_ble_eq_true rfl) rfl (v_J17_equals D l hl [.ref x0, .ref x1] h x0 x1 h e)
/-! java/lang/String.equals(Ljava/lang/Object;)Z  -/
abbrev G_J6_equals (D : va_G) (l : Launch) (as : List Value) (h0 hF : AH) (o : Out) : CT := (D, l, (yJ6_equals.cls, yJ6_equals, cJ6_equals, 3, (Option.some .boolean), 2, 70, []), as, h0, hF, o)
theorem hc_J6_equals {D : va_G} {l : Launch} {as : List Value} {h0 hF : AH} {o : Out} : gC (G_J6_equals D l as h0 hF o) = cJ6_equals := rfl
theorem ho_J6_equals {D : va_G} {l : Launch} {as : List Value} {h0 hF : AH} {o : Out} : gO (G_J6_equals D l as h0 hF o) = "java/lang/String" := rfl
theorem hp_J6_equals {D : va_G} {l : Launch} {as : List Value} {h0 hF : AH} {o : Out} (pc : Nat) : ∀ z ∈ tableOf (gHd (G_J6_equals D l as h0 hF o)), covers z pc = false := hpN
def f_J6_equals_j36 (x0 : Nat) (x2 : Nat) (h : AH) : Option (Int32 × AH) :=
  bd (gtR h 19 x0 0) fun v1 =>
  bd (gtR h 19 x2 0) fun v2 =>
  bd2 (f_J17_equals v1 v2 h) fun r3 h4 =>
  if r3 = 0 then (
    some ((0 : Int32), h4)
  ) else (
    some ((1 : Int32), h4)
  )
theorem w_J6_equals_j36 (D : va_G) (l : Launch) (hl : l.stackTraces = false) (as : List Value) (h0 : AH) {r : Int32} {hF : AH} (x0 : Nat) (x2 : Nat) (h : AH) (e : f_J6_equals_j36 x0 x2 h = some (r, hF)) : V (G_J6_equals D l as h0 hF (oI r)) h 36 [(0, .ref x0), (2, .ref x2)] [] := by
  unfold f_J6_equals_j36 at e
  refine v_aload_n (pc' := 37) hc_J6_equals dJ6_equals_36 rfl rfl 0 rfl ?_
  refine v_gfR (pc' := 40) hc_J6_equals ho_J6_equals KJ6 0 (Nat.le_of_ble_eq_true rfl) q793 (Or.inl rfl) dJ6_equals_37 rfl e (fun v1 _ e => ?_)
  refine v_aload_n (pc' := 41) hc_J6_equals dJ6_equals_40 rfl rfl 1 rfl ?_
  refine v_gfR (pc' := 44) hc_J6_equals ho_J6_equals KJ6 0 (Nat.le_of_ble_eq_true rfl) q793 (Or.inl rfl) dJ6_equals_41 rfl e (fun v2 _ e => ?_)
  obtain ⟨r3, h4, e5, e⟩ := bd2_of e
  refine k_S (pc' := 47) (n := 2) hc_J6_equals ho_J6_equals (w_J17_equals D l hl v1 v2 h e5) (wA_l q1073) q1074 q98 q1075 hy_37 ⟨Nat.le_of_ble_eq_true rfl, Nat.le_of_ble_eq_true rfl⟩ rfl rfl (Nat.le_of_ble_eq_true rfl) dJ6_equals_44 rfl (kS ?_) kN
  refine v_if_eq (pt := 54) (pf := 50) hc_J6_equals dJ6_equals_47 rfl rfl e (fun _ e => ?_) (fun _ e => ?_)
  · refine v_iconst (pc' := 55) (v := 0) hc_J6_equals dJ6_equals_54 rfl rfl ?_
    obtain ⟨rfl, rfl⟩ := ret_of e
    exact v_zret hc_J6_equals rfl (ft := .boolean) rfl dJ6_equals_55 rfl rfl
  · refine v_iconst (pc' := 51) (v := 1) hc_J6_equals dJ6_equals_50 rfl rfl ?_
    refine v_goto (pt := 55) hc_J6_equals dJ6_equals_51 rfl ?_
    obtain ⟨rfl, rfl⟩ := ret_of e
    exact v_zret hc_J6_equals rfl (ft := .boolean) rfl dJ6_equals_55 rfl rfl
def f_J6_equals (x0 : Nat) (x1 : Nat) (h : AH) : Option (Int32 × AH) :=
  if x0 = x1 then (
    some ((1 : Int32), h)
  ) else (
    if isC h 19 x1 = true then (
      gd (isC h 19 x1) <|
      bd (gtI h 19 x0 1) fun v2 =>
      bd (gtI h 19 x1 1) fun v3 =>
      if v2 = v3 then (
        f_J6_equals_j36 x0 x1 h
      ) else (
        some ((0 : Int32), h)
      )
    ) else (
    none)
  )
theorem v_J6_equals (D : va_G) (l : Launch) (hl : l.stackTraces = false) (as : List Value) (h0 : AH) {r : Int32} {hF : AH} (x0 : Nat) (x1 : Nat) (h : AH) (e : f_J6_equals x0 x1 h = some (r, hF)) : V (G_J6_equals D l as h0 hF (oI r)) h 0 [(0, .ref x0), (1, .ref x1)] [] := by
  unfold f_J6_equals at e
  refine v_aload_n (pc' := 1) hc_J6_equals dJ6_equals_0 rfl rfl 0 rfl ?_
  refine v_aload_n (pc' := 2) hc_J6_equals dJ6_equals_1 rfl rfl 1 rfl ?_
  refine v_acmp_ne (pt := 7) (pf := 5) hc_J6_equals dJ6_equals_2 rfl rfl e (fun _ e => ?_) (fun _ e => ?_)
  · refine v_iconst (pc' := 6) (v := 1) hc_J6_equals dJ6_equals_5 rfl rfl ?_
    obtain ⟨rfl, rfl⟩ := ret_of e
    exact v_zret hc_J6_equals rfl (ft := .boolean) rfl dJ6_equals_6 rfl rfl
  · refine v_aload_n (pc' := 8) hc_J6_equals dJ6_equals_7 rfl rfl 1 rfl ?_
    rcases ite_cs e with ⟨c4, e⟩ | ⟨_, e⟩
    · refine v_inst (pc' := 11) (ci := 19) hc_J6_equals ho_J6_equals rfl q1072 (Or.inl rfl) dJ6_equals_8 rfl c4 ?_
      refine v_if_eqF (pt := 54) (pf := 14) hc_J6_equals dJ6_equals_11 rfl rfl (by decide) ?_
      refine v_aload_n (pc' := 15) hc_J6_equals dJ6_equals_14 rfl rfl 1 rfl ?_
      obtain ⟨c1, e⟩ := gd_of e
      refine v_cast (pc' := 18) (ci := 19) hc_J6_equals ho_J6_equals rfl q1072 (Or.inl rfl) dJ6_equals_15 rfl c1 ?_
      refine v_astore_n (pc' := 19) (lv' := [(2, .ref x1), (0, .ref x0), (1, .ref x1)]) hc_J6_equals dJ6_equals_18 rfl rfl (Nat.le_of_ble_eq_true rfl) rfl ?_
      refine v_getsI (pc' := 22) (x := 1) hc_J6_equals ho_J6_equals (by decide +kernel) q704 dJ6_equals_19 rfl ?_
      refine v_if_eqF (pt := 36) (pf := 25) hc_J6_equals dJ6_equals_22 rfl rfl (by decide) ?_
      refine v_aload_n (pc' := 26) hc_J6_equals dJ6_equals_25 rfl rfl 1 rfl ?_
      refine v_gfI (pc' := 29) hc_J6_equals ho_J6_equals KJ6 1 (Nat.le_of_ble_eq_true rfl) q794 (Or.inl rfl) dJ6_equals_26 rfl e (fun v2 _ e => ?_)
      refine v_aload_n (pc' := 30) hc_J6_equals dJ6_equals_29 rfl rfl 0 rfl ?_
      refine v_gfI (pc' := 33) hc_J6_equals ho_J6_equals KJ6 1 (Nat.le_of_ble_eq_true rfl) q794 (Or.inl rfl) dJ6_equals_30 rfl e (fun v3 _ e => ?_)
      refine v_icmp_ne (pt := 54) (pf := 36) hc_J6_equals dJ6_equals_33 rfl rfl e (fun _ e => ?_) (fun _ e => ?_)
      · refine v_pick [1, 0] rfl ?_
        exact w_J6_equals_j36 D l hl as h0 x0 x1 h e
      · refine v_iconst (pc' := 55) (v := 0) hc_J6_equals dJ6_equals_54 rfl rfl ?_
        obtain ⟨rfl, rfl⟩ := ret_of e
        exact v_zret hc_J6_equals rfl (ft := .boolean) rfl dJ6_equals_55 rfl rfl
    exact nomatch e
theorem w_J6_equals (D : va_G) (l : Launch) (hl : l.stackTraces = false) (x0 : Nat) (x1 : Nat) (h : AH) {r : Int32} {hF : AH} (e : f_J6_equals x0 x1 h = some (r, hF)) : MetV D l yJ6_equals (Cond.code yJ6_equals cJ6_equals 3 (Option.some .boolean)) 2 70 [.ref x0, .ref x1] h hF (oI r) :=
  met_ofF (by decide +kernel) hl (Nat.le_of_ble_eq_true rfl) rfl (v_J6_equals D l hl [.ref x0, .ref x1] h x0 x1 h e)
/-! java/lang/Throwable.<init>(Ljava/lang/String;Ljava/lang/Throwable;ZZ)V {'ci': 6, 'nul': (1, 2)} -/
abbrev G_J9_init_3_6_n12 (D : va_G) (l : Launch) (as : List Value) (h0 hF : AH) (o : Out) : CT := (D, l, (yJ9_init_3.cls, yJ9_init_3, cJ9_init_3, 5, (Option.none : Option FieldType), 1, 48, []), as, h0, hF, o)
theorem hc_J9_init_3_6_n12 {D : va_G} {l : Launch} {as : List Value} {h0 hF : AH} {o : Out} : gC (G_J9_init_3_6_n12 D l as h0 hF o) = cJ9_init_3 := rfl
theorem ho_J9_init_3_6_n12 {D : va_G} {l : Launch} {as : List Value} {h0 hF : AH} {o : Out} : gO (G_J9_init_3_6_n12 D l as h0 hF o) = "java/lang/Throwable" := rfl
theorem hp_J9_init_3_6_n12 {D : va_G} {l : Launch} {as : List Value} {h0 hF : AH} {o : Out} (pc : Nat) : ∀ z ∈ tableOf (gHd (G_J9_init_3_6_n12 D l as h0 hF o)), covers z pc = false := hpN
def f_J9_init_3_6_n12_j41 (x0 : Nat) (x3 : Int32) (h : AH) : Option (Unit × AH) :=
  bd (stF h 6 x0 3 .null) fun h1 =>
  bd (stF h1 6 x0 0 .null) fun h2 =>
  if x3 = 0 then (
    bd (stF h2 6 x0 2 .null) fun h3 =>
    some ((), h3)
  ) else (
    some ((), h2)
  )
theorem w_J9_init_3_6_n12_j41 (D : va_G) (l : Launch) (hl : l.stackTraces = false) (as : List Value) (h0 : AH) {r : Unit} {hF : AH} (x0 : Nat) (x3 : Int32) (h : AH) (e : f_J9_init_3_6_n12_j41 x0 x3 h = some (r, hF)) : V (G_J9_init_3_6_n12 D l as h0 hF (oV r)) h 41 [(0, .ref x0), (1, .null), (2, .null), (3, .int x3)] [] := by
  unfold f_J9_init_3_6_n12_j41 at e
  refine v_aload_n (pc' := 42) hc_J9_init_3_6_n12 dJ9_init_3_41 rfl rfl 0 rfl ?_
  refine v_aload_nN (pc' := 43) hc_J9_init_3_6_n12 dJ9_init_3_42 rfl rfl 1 rfl ?_
  refine v_pf (pc' := 46) hc_J9_init_3_6_n12 ho_J9_init_3_6_n12 KX7 3 (Nat.le_of_ble_eq_true rfl) q331 (Or.inl rfl) rfl dJ9_init_3_43 rfl rfl rfl e (fun h1 _ e => ?_)
  refine v_aload_n (pc' := 47) hc_J9_init_3_6_n12 dJ9_init_3_46 rfl rfl 0 rfl ?_
  refine v_aload_nN (pc' := 48) hc_J9_init_3_6_n12 dJ9_init_3_47 rfl rfl 2 rfl ?_
  refine v_pf (pc' := 51) hc_J9_init_3_6_n12 ho_J9_init_3_6_n12 KX7 0 (Nat.le_of_ble_eq_true rfl) q332 (Or.inl rfl) rfl dJ9_init_3_48 rfl rfl rfl e (fun h2 _ e => ?_)
  refine v_iload_n (pc' := 52) hc_J9_init_3_6_n12 dJ9_init_3_51 rfl rfl 3 rfl ?_
  refine v_if_ne (pt := 60) (pf := 55) hc_J9_init_3_6_n12 dJ9_init_3_52 rfl rfl e (fun _ e => ?_) (fun _ e => ?_)
  · refine v_aload_n (pc' := 56) hc_J9_init_3_6_n12 dJ9_init_3_55 rfl rfl 0 rfl ?_
    refine v_null (pc' := 57) hc_J9_init_3_6_n12 dJ9_init_3_56 rfl ?_
    refine v_pf (pc' := 60) hc_J9_init_3_6_n12 ho_J9_init_3_6_n12 KX7 2 (Nat.le_of_ble_eq_true rfl) q334 (Or.inl rfl) rfl dJ9_init_3_57 rfl rfl rfl e (fun h3 _ e => ?_)
    obtain ⟨rfl, rfl⟩ := ret_of e
    exact v_ret hc_J9_init_3_6_n12 rfl dJ9_init_3_60 rfl rfl
  · obtain ⟨rfl, rfl⟩ := ret_of e
    exact v_ret hc_J9_init_3_6_n12 rfl dJ9_init_3_60 rfl rfl
def f_J9_init_3_6_n12 (x0 : Nat) (x3 : Int32) (x4 : Int32) (h : AH) : Option (Unit × AH) :=
  bd (stF h 6 x0 0 (.ref x0)) fun h1 =>
  bd (stF h1 6 x0 1 (va_rf (aE h1 3))) fun h2 =>
  bd (stF h2 6 x0 2 (va_rf (aE h2 4))) fun h3 =>
  if x4 = 0 then (
    bd (stF h3 6 x0 1 .null) fun h4 =>
    f_J9_init_3_6_n12_j41 x0 x3 h4
  ) else (
    none
  )
theorem v_J9_init_3_6_n12 (D : va_G) (l : Launch) (hl : l.stackTraces = false) (as : List Value) (h0 : AH) {r : Unit} {hF : AH} (x0 : Nat) (x3 : Int32) (x4 : Int32) (h : AH) (e : f_J9_init_3_6_n12 x0 x3 x4 h = some (r, hF)) : V (G_J9_init_3_6_n12 D l as h0 hF (oV r)) h 0 [(0, .ref x0), (1, .null), (2, .null), (3, .int x3), (4, .int x4)] [] := by
  unfold f_J9_init_3_6_n12 at e
  refine v_aload_n (pc' := 1) hc_J9_init_3_6_n12 dJ9_init_3_0 rfl rfl 0 rfl ?_
  refine v_oinit (pc' := 4) hc_J9_init_3_6_n12 ho_J9_init_3_6_n12 q297 q127 q128 ⟨Nat.le_of_ble_eq_true rfl, Nat.le_of_ble_eq_true rfl⟩ dJ9_init_3_1 rfl ?_
  refine v_aload_n (pc' := 5) hc_J9_init_3_6_n12 dJ9_init_3_4 rfl rfl 0 rfl ?_
  refine v_aload_n (pc' := 6) hc_J9_init_3_6_n12 dJ9_init_3_5 rfl rfl 0 rfl ?_
  refine v_pf (pc' := 9) hc_J9_init_3_6_n12 ho_J9_init_3_6_n12 KX7 0 (Nat.le_of_ble_eq_true rfl) q332 (Or.inl rfl) rfl dJ9_init_3_6 rfl rfl rfl e (fun h1 _ e => ?_)
  refine v_aload_n (pc' := 10) hc_J9_init_3_6_n12 dJ9_init_3_9 rfl rfl 0 rfl ?_
  refine v_getsR (pc' := 13) (j := 3) hc_J9_init_3_6_n12 ho_J9_init_3_6_n12 (by decide +kernel) q298 dJ9_init_3_10 rfl ?_
  refine v_pf (pc' := 16) hc_J9_init_3_6_n12 ho_J9_init_3_6_n12 KX7 1 (Nat.le_of_ble_eq_true rfl) q333 (Or.inl rfl) rfl dJ9_init_3_13 rfl (nrw_rfa _) (fit_rfa _) e (fun h2 _ e => ?_)
  refine v_aload_n (pc' := 17) hc_J9_init_3_6_n12 dJ9_init_3_16 rfl rfl 0 rfl ?_
  refine v_getsR (pc' := 20) (j := 4) hc_J9_init_3_6_n12 ho_J9_init_3_6_n12 (by decide +kernel) q300 dJ9_init_3_17 rfl ?_
  refine v_pf (pc' := 23) hc_J9_init_3_6_n12 ho_J9_init_3_6_n12 KX7 2 (Nat.le_of_ble_eq_true rfl) q334 (Or.inl rfl) rfl dJ9_init_3_20 rfl (nrw_rf _) (fit_rf _) e (fun h3 _ e => ?_)
  refine v_iload (pc' := 25) hc_J9_init_3_6_n12 dJ9_init_3_23 rfl 4 rfl ?_
  refine v_if_eq (pt := 36) (pf := 28) hc_J9_init_3_6_n12 dJ9_init_3_25 rfl rfl e (fun _ e => ?_) (fun _ e => ?_)
  · refine v_aload_n (pc' := 37) hc_J9_init_3_6_n12 dJ9_init_3_36 rfl rfl 0 rfl ?_
    refine v_null (pc' := 38) hc_J9_init_3_6_n12 dJ9_init_3_37 rfl ?_
    refine v_pf (pc' := 41) hc_J9_init_3_6_n12 ho_J9_init_3_6_n12 KX7 1 (Nat.le_of_ble_eq_true rfl) q333 (Or.inl rfl) rfl dJ9_init_3_38 rfl rfl rfl e (fun h4 _ e => ?_)
    refine v_pick [0, 1, 2, 3] rfl ?_
    exact w_J9_init_3_6_n12_j41 D l hl as h0 x0 x3 h4 e
  · refine v_aload_n (pc' := 29) hc_J9_init_3_6_n12 dJ9_init_3_28 rfl rfl 0 rfl ?_
    exact nomatch e
theorem w_J9_init_3_6_n12 (D : va_G) (l : Launch) (hl : l.stackTraces = false) (x0 : Nat) (x3 : Int32) (x4 : Int32) (h : AH) {r : Unit} {hF : AH} (e : f_J9_init_3_6_n12 x0 x3 x4 h = some (r, hF)) : MetV D l yJ9_init_3 (Cond.code yJ9_init_3 cJ9_init_3 5 (Option.none : Option FieldType)) 1 48 [.ref x0, .null, .null, .int x3, .int x4] h hF (oV r) :=
  met_ofF (by decide +kernel) hl (Nat.le_of_ble_eq_true rfl) rfl (v_J9_init_3_6_n12 D l hl [.ref x0, .null, .null, .int x3, .int x4] h x0 x3 x4 h e)
/-! java/lang/Exception.<init>(Ljava/lang/String;Ljava/lang/Throwable;ZZ)V {'ci': 6, 'nul': (1, 2)} -/
abbrev G_J10_init_3_6_n12 (D : va_G) (l : Launch) (as : List Value) (h0 hF : AH) (o : Out) : CT := (D, l, (yJ10_init_3.cls, yJ10_init_3, cJ10_init_3, 5, (Option.none : Option FieldType), 2, 72, []), as, h0, hF, o)
theorem hc_J10_init_3_6_n12 {D : va_G} {l : Launch} {as : List Value} {h0 hF : AH} {o : Out} : gC (G_J10_init_3_6_n12 D l as h0 hF o) = cJ10_init_3 := rfl
theorem ho_J10_init_3_6_n12 {D : va_G} {l : Launch} {as : List Value} {h0 hF : AH} {o : Out} : gO (G_J10_init_3_6_n12 D l as h0 hF o) = "java/lang/Exception" := rfl
theorem hp_J10_init_3_6_n12 {D : va_G} {l : Launch} {as : List Value} {h0 hF : AH} {o : Out} (pc : Nat) : ∀ z ∈ tableOf (gHd (G_J10_init_3_6_n12 D l as h0 hF o)), covers z pc = false := hpN
def f_J10_init_3_6_n12 (x0 : Nat) (x3 : Int32) (x4 : Int32) (h : AH) : Option (Unit × AH) :=
  bd2 (f_J9_init_3_6_n12 x0 x3 x4 h) fun r1 h2 =>
  some ((), h2)
theorem v_J10_init_3_6_n12 (D : va_G) (l : Launch) (hl : l.stackTraces = false) (as : List Value) (h0 : AH) {r : Unit} {hF : AH} (x0 : Nat) (x3 : Int32) (x4 : Int32) (h : AH) (e : f_J10_init_3_6_n12 x0 x3 x4 h = some (r, hF)) : V (G_J10_init_3_6_n12 D l as h0 hF (oV r)) h 0 [(0, .ref x0), (1, .null), (2, .null), (3, .int x3), (4, .int x4)] [] := by
  unfold f_J10_init_3_6_n12 at e
  refine v_aload_n (pc' := 1) hc_J10_init_3_6_n12 dJ10_init_3_0 rfl rfl 0 rfl ?_
  refine v_aload_nN (pc' := 2) hc_J10_init_3_6_n12 dJ10_init_3_1 rfl rfl 1 rfl ?_
  refine v_aload_nN (pc' := 3) hc_J10_init_3_6_n12 dJ10_init_3_2 rfl rfl 2 rfl ?_
  refine v_iload_n (pc' := 4) hc_J10_init_3_6_n12 dJ10_init_3_3 rfl rfl 3 rfl ?_
  refine v_iload (pc' := 6) hc_J10_init_3_6_n12 dJ10_init_3_4 rfl 4 rfl ?_
  obtain ⟨r1, h2, e3, e⟩ := bd2_of e
  refine k_I (pc' := 9) (n := 4) hc_J10_init_3_6_n12 ho_J10_init_3_6_n12 (w_J9_init_3_6_n12 D l hl x0 x3 x4 h e3) (wA_l q1107) q1108 q88 q1109 rfl hy_41 ⟨Nat.le_of_ble_eq_true rfl, Nat.le_of_ble_eq_true rfl⟩ rfl rfl (Nat.le_of_ble_eq_true rfl) dJ10_init_3_6 rfl (kU ?_) kN
  obtain ⟨rfl, rfl⟩ := ret_of e
  exact v_ret hc_J10_init_3_6_n12 rfl dJ10_init_3_9 rfl rfl
theorem w_J10_init_3_6_n12 (D : va_G) (l : Launch) (hl : l.stackTraces = false) (x0 : Nat) (x3 : Int32) (x4 : Int32) (h : AH) {r : Unit} {hF : AH} (e : f_J10_init_3_6_n12 x0 x3 x4 h = some (r, hF)) : MetV D l yJ10_init_3 (Cond.code yJ10_init_3 cJ10_init_3 5 (Option.none : Option FieldType)) 2 72 [.ref x0, .null, .null, .int x3, .int x4] h hF (oV r) :=
  met_ofF (by decide +kernel) hl (Nat.le_of_ble_eq_true rfl) rfl (v_J10_init_3_6_n12 D l hl [.ref x0, .null, .null, .int x3, .int x4] h x0 x3 x4 h e)
/-! java/util/ArrayList.set(ILjava/lang/Object;)Ljava/lang/Object;  -/
abbrev G_J2_set (D : va_G) (l : Launch) (as : List Value) (h0 hF : AH) (o : Out) : CT := (D, l, (yJ2_set.cls, yJ2_set, cJ2_set, 4, (Option.some (.object "java/lang/Object")), 3, 91, []), as, h0, hF, o)
theorem hc_J2_set {D : va_G} {l : Launch} {as : List Value} {h0 hF : AH} {o : Out} : gC (G_J2_set D l as h0 hF o) = cJ2_set := rfl
theorem ho_J2_set {D : va_G} {l : Launch} {as : List Value} {h0 hF : AH} {o : Out} : gO (G_J2_set D l as h0 hF o) = "java/util/ArrayList" := rfl
theorem hp_J2_set {D : va_G} {l : Launch} {as : List Value} {h0 hF : AH} {o : Out} (pc : Nat) : ∀ z ∈ tableOf (gHd (G_J2_set D l as h0 hF o)), covers z pc = false := hpN
def f_J2_set (x0 : Nat) (x1 : Int32) (x2 : Nat) (h : AH) : Option (Nat × AH) :=
  bd (gtI h 16 x0 2) fun v1 =>
  bd2 (f_J18_checkIndex x1 v1 h) fun r2 h3 =>
  gd (isC h3 16 x0) <|
  bd2 (f_J2_elementData x0 x1 h3) fun r6 h7 =>
  bd (gtR h7 16 x0 1) fun v9 =>
  bd (stQ h7 v9 x1 (some x2)) fun h10 =>
  some (r6, h10)
theorem v_J2_set (D : va_G) (l : Launch) (hl : l.stackTraces = false) (as : List Value) (h0 : AH) {r : Nat} {hF : AH} (x0 : Nat) (x1 : Int32) (x2 : Nat) (h : AH) (e : f_J2_set x0 x1 x2 h = some (r, hF)) : V (G_J2_set D l as h0 hF (oR r)) h 0 [(0, .ref x0), (1, .int x1), (2, .ref x2)] [] := by
  unfold f_J2_set at e
  refine v_iload_n (pc' := 1) hc_J2_set dJ2_set_0 rfl rfl 1 rfl ?_
  refine v_aload_n (pc' := 2) hc_J2_set dJ2_set_1 rfl rfl 0 rfl ?_
  refine v_gfI (pc' := 5) hc_J2_set ho_J2_set KJ2 2 (Nat.le_of_ble_eq_true rfl) q152 (Or.inl rfl) dJ2_set_2 rfl e (fun v1 _ e => ?_)
  obtain ⟨r2, h3, e4, e⟩ := bd2_of e
  refine k_S (pc' := 8) (n := 2) hc_J2_set ho_J2_set (w_J18_checkIndex D l hl x1 v1 h e4) (wA_l q406) q407 q100 q408 hy_21 ⟨Nat.le_of_ble_eq_true rfl, Nat.le_of_ble_eq_true rfl⟩ rfl rfl (Nat.le_of_ble_eq_true rfl) dJ2_set_5 rfl (kS ?_) kN
  refine v_pop (pc' := 9) hc_J2_set dJ2_set_8 rfl rfl ?_
  refine v_aload_n (pc' := 10) hc_J2_set dJ2_set_9 rfl rfl 0 rfl ?_
  refine v_iload_n (pc' := 11) hc_J2_set dJ2_set_10 rfl rfl 1 rfl ?_
  obtain ⟨c5, e⟩ := gd_of e
  obtain ⟨r6, h7, e8, e⟩ := bd2_of e
  refine k_V (pc' := 14) (ci := 16) (n := 1) hc_J2_set ho_J2_set rfl c5 (w_J2_elementData D l hl x0 x1 h3 e8) (wA_l q412) q413 (wA_l q414) q79 q415 hy_22 ⟨Nat.le_of_ble_eq_true rfl, Nat.le_of_ble_eq_true rfl⟩ rfl rfl (Nat.le_of_ble_eq_true rfl) dJ2_set_11 rfl (kS ?_) kN
  refine v_astore_n (pc' := 15) (lv' := [(3, .ref r6), (0, .ref x0), (1, .int x1), (2, .ref x2)]) hc_J2_set dJ2_set_14 rfl rfl (Nat.le_of_ble_eq_true rfl) rfl ?_
  refine v_aload_n (pc' := 16) hc_J2_set dJ2_set_15 rfl rfl 1 rfl ?_
  refine v_gfR (pc' := 19) hc_J2_set ho_J2_set KJ2 1 (Nat.le_of_ble_eq_true rfl) q149 (Or.inl rfl) dJ2_set_16 rfl e (fun v9 _ e => ?_)
  refine v_iload_n (pc' := 20) hc_J2_set dJ2_set_19 rfl rfl 2 rfl ?_
  refine v_aload_n (pc' := 21) hc_J2_set dJ2_set_20 rfl rfl 3 rfl ?_
  refine v_aast (pc' := 22) hc_J2_set dJ2_set_21 rfl e (fun h10 _ e => ?_)
  refine v_aload_n (pc' := 23) hc_J2_set dJ2_set_22 rfl rfl 0 rfl ?_
  obtain ⟨rfl, rfl⟩ := ret_of e
  exact v_aret hc_J2_set rfl (Or.inl ⟨_, rfl⟩) (Or.inr ⟨_, rfl⟩) dJ2_set_23 rfl rfl
theorem w_J2_set (D : va_G) (l : Launch) (hl : l.stackTraces = false) (x0 : Nat) (x1 : Int32) (x2 : Nat) (h : AH) {r : Nat} {hF : AH} (e : f_J2_set x0 x1 x2 h = some (r, hF)) : MetV D l yJ2_set (Cond.code yJ2_set cJ2_set 4 (Option.some (.object "java/lang/Object"))) 3 91 [.ref x0, .int x1, .ref x2] h hF (oR r) :=
  met_ofF (by decide +kernel) hl (Nat.le_of_ble_eq_true rfl) rfl (v_J2_set D l hl [.ref x0, .int x1, .ref x2] h x0 x1 x2 h e)
/-! java/lang/Math.abs(I)I  -/
abbrev G_J15_abs (D : va_G) (l : Launch) (as : List Value) (h0 hF : AH) (o : Out) : CT := (D, l, (yJ15_abs.cls, yJ15_abs, cJ15_abs, 1, (Option.some .int), 1, 48, []), as, h0, hF, o)
theorem hc_J15_abs {D : va_G} {l : Launch} {as : List Value} {h0 hF : AH} {o : Out} : gC (G_J15_abs D l as h0 hF o) = cJ15_abs := rfl
theorem ho_J15_abs {D : va_G} {l : Launch} {as : List Value} {h0 hF : AH} {o : Out} : gO (G_J15_abs D l as h0 hF o) = "java/lang/Math" := rfl
theorem hp_J15_abs {D : va_G} {l : Launch} {as : List Value} {h0 hF : AH} {o : Out} (pc : Nat) : ∀ z ∈ tableOf (gHd (G_J15_abs D l as h0 hF o)), covers z pc = false := hpN
def f_J15_abs (x0 : Int32) (h : AH) : Option (Int32 × AH) :=
  if 0 ≤ x0 then (
    some (x0, h)
  ) else (
    some ((-x0), h)
  )
theorem v_J15_abs (D : va_G) (l : Launch) (hl : l.stackTraces = false) (as : List Value) (h0 : AH) {r : Int32} {hF : AH} (x0 : Int32) (h : AH) (e : f_J15_abs x0 h = some (r, hF)) : V (G_J15_abs D l as h0 hF (oI r)) h 0 [(0, .int x0)] [] := by
  unfold f_J15_abs at e
  refine v_iload_n (pc' := 1) hc_J15_abs dJ15_abs_0 rfl rfl 0 rfl ?_
  refine v_if_ge (pt := 9) (pf := 4) hc_J15_abs dJ15_abs_1 rfl rfl e (fun _ e => ?_) (fun _ e => ?_)
  · refine v_iload_n (pc' := 10) hc_J15_abs dJ15_abs_9 rfl rfl 0 rfl ?_
    obtain ⟨rfl, rfl⟩ := ret_of e
    exact v_iret hc_J15_abs rfl dJ15_abs_10 rfl rfl
  · refine v_iload_n (pc' := 5) hc_J15_abs dJ15_abs_4 rfl rfl 0 rfl ?_
    refine v_ineg (pc' := 6) hc_J15_abs dJ15_abs_5 rfl ?_
    refine v_goto (pt := 10) hc_J15_abs dJ15_abs_6 rfl ?_
    obtain ⟨rfl, rfl⟩ := ret_of e
    exact v_iret hc_J15_abs rfl dJ15_abs_10 rfl rfl
theorem w_J15_abs (D : va_G) (l : Launch) (hl : l.stackTraces = false) (x0 : Int32) (h : AH) {r : Int32} {hF : AH} (e : f_J15_abs x0 h = some (r, hF)) : MetV D l yJ15_abs (Cond.code yJ15_abs cJ15_abs 1 (Option.some .int)) 1 48 [.int x0] h hF (oI r) :=
  met_ofF (by decide +kernel) hl (Nat.le_of_ble_eq_true rfl) rfl (v_J15_abs D l hl [.int x0] h x0 h e)
/-! java/util/ArrayList.isEmpty()Z  -/
abbrev G_J2_isEmpty (D : va_G) (l : Launch) (as : List Value) (h0 hF : AH) (o : Out) : CT := (D, l, (yJ2_isEmpty.cls, yJ2_isEmpty, cJ2_isEmpty, 1, (Option.some .boolean), 1, 48, []), as, h0, hF, o)
theorem hc_J2_isEmpty {D : va_G} {l : Launch} {as : List Value} {h0 hF : AH} {o : Out} : gC (G_J2_isEmpty D l as h0 hF o) = cJ2_isEmpty := rfl
theorem ho_J2_isEmpty {D : va_G} {l : Launch} {as : List Value} {h0 hF : AH} {o : Out} : gO (G_J2_isEmpty D l as h0 hF o) = "java/util/ArrayList" := rfl
theorem hp_J2_isEmpty {D : va_G} {l : Launch} {as : List Value} {h0 hF : AH} {o : Out} (pc : Nat) : ∀ z ∈ tableOf (gHd (G_J2_isEmpty D l as h0 hF o)), covers z pc = false := hpN
def f_J2_isEmpty (x0 : Nat) (h : AH) : Option (Int32 × AH) :=
  bd (gtI h 16 x0 2) fun v1 =>
  if v1 = 0 then (
    some ((1 : Int32), h)
  ) else (
    some ((0 : Int32), h)
  )
theorem v_J2_isEmpty (D : va_G) (l : Launch) (hl : l.stackTraces = false) (as : List Value) (h0 : AH) {r : Int32} {hF : AH} (x0 : Nat) (h : AH) (e : f_J2_isEmpty x0 h = some (r, hF)) : V (G_J2_isEmpty D l as h0 hF (oI r)) h 0 [(0, .ref x0)] [] := by
  unfold f_J2_isEmpty at e
  refine v_aload_n (pc' := 1) hc_J2_isEmpty dJ2_isEmpty_0 rfl rfl 0 rfl ?_
  refine v_gfI (pc' := 4) hc_J2_isEmpty ho_J2_isEmpty KJ2 2 (Nat.le_of_ble_eq_true rfl) q152 (Or.inl rfl) dJ2_isEmpty_1 rfl e (fun v1 _ e => ?_)
  refine v_if_ne (pt := 11) (pf := 7) hc_J2_isEmpty dJ2_isEmpty_4 rfl rfl e (fun _ e => ?_) (fun _ e => ?_)
  · refine v_iconst (pc' := 8) (v := 1) hc_J2_isEmpty dJ2_isEmpty_7 rfl rfl ?_
    refine v_goto (pt := 12) hc_J2_isEmpty dJ2_isEmpty_8 rfl ?_
    obtain ⟨rfl, rfl⟩ := ret_of e
    exact v_zret hc_J2_isEmpty rfl (ft := .boolean) rfl dJ2_isEmpty_12 rfl rfl
  · refine v_iconst (pc' := 12) (v := 0) hc_J2_isEmpty dJ2_isEmpty_11 rfl rfl ?_
    obtain ⟨rfl, rfl⟩ := ret_of e
    exact v_zret hc_J2_isEmpty rfl (ft := .boolean) rfl dJ2_isEmpty_12 rfl rfl
theorem w_J2_isEmpty (D : va_G) (l : Launch) (hl : l.stackTraces = false) (x0 : Nat) (h : AH) {r : Int32} {hF : AH} (e : f_J2_isEmpty x0 h = some (r, hF)) : MetV D l yJ2_isEmpty (Cond.code yJ2_isEmpty cJ2_isEmpty 1 (Option.some .boolean)) 1 48 [.ref x0] h hF (oI r) :=
  met_ofF (by decide +kernel) hl (Nat.le_of_ble_eq_true rfl) rfl (v_J2_isEmpty D l hl [.ref x0] h x0 h e)
/-! java/util/ArrayList.fastRemove([Ljava/lang/Object;I)V  -/
abbrev G_J2_fastRemove (D : va_G) (l : Launch) (as : List Value) (h0 hF : AH) (o : Out) : CT := (D, l, (yJ2_fastRemove.cls, yJ2_fastRemove, cJ2_fastRemove, 4, (Option.none : Option FieldType), 1, 64, []), as, h0, hF, o)
theorem hc_J2_fastRemove {D : va_G} {l : Launch} {as : List Value} {h0 hF : AH} {o : Out} : gC (G_J2_fastRemove D l as h0 hF o) = cJ2_fastRemove := rfl
theorem ho_J2_fastRemove {D : va_G} {l : Launch} {as : List Value} {h0 hF : AH} {o : Out} : gO (G_J2_fastRemove D l as h0 hF o) = "java/util/ArrayList" := rfl
theorem hp_J2_fastRemove {D : va_G} {l : Launch} {as : List Value} {h0 hF : AH} {o : Out} (pc : Nat) : ∀ z ∈ tableOf (gHd (G_J2_fastRemove D l as h0 hF o)), covers z pc = false := hpN
def f_J2_fastRemove (x0 : Nat) (x1 : Nat) (x2 : Int32) (h : AH) : Option (Unit × AH) :=
  bd (gtI h 16 x0 0) fun v1 =>
  bd (stF h 16 x0 0 (.int (v1 + (1 : Int32)))) fun h2 =>
  bd (gtI h2 16 x0 2) fun v3 =>
  if (v3 - (1 : Int32)) ≤ x2 then (
    bd (stF h2 16 x0 2 (.int (v3 - (1 : Int32)))) fun h4 =>
    bd (stQ h4 x1 (v3 - (1 : Int32)) none) fun h5 =>
    some ((), h5)
  ) else (
    bd (cpQ h2 x1 (x2 + (1 : Int32)) x1 x2 ((v3 - (1 : Int32)) - x2)) fun h6 =>
    bd (stF h6 16 x0 2 (.int (v3 - (1 : Int32)))) fun h7 =>
    bd (stQ h7 x1 (v3 - (1 : Int32)) none) fun h8 =>
    some ((), h8)
  )
theorem v_J2_fastRemove (D : va_G) (l : Launch) (hl : l.stackTraces = false) (as : List Value) (h0 : AH) {r : Unit} {hF : AH} (x0 : Nat) (x1 : Nat) (x2 : Int32) (h : AH) (e : f_J2_fastRemove x0 x1 x2 h = some (r, hF)) : V (G_J2_fastRemove D l as h0 hF (oV r)) h 0 [(0, .ref x0), (1, .ref x1), (2, .int x2)] [] := by
  unfold f_J2_fastRemove at e
  refine v_aload_n (pc' := 1) hc_J2_fastRemove dJ2_fastRemove_0 rfl rfl 0 rfl ?_
  refine v_dup (pc' := 2) hc_J2_fastRemove dJ2_fastRemove_1 rfl rfl ?_
  refine v_gfI (pc' := 5) hc_J2_fastRemove ho_J2_fastRemove KJ2 0 (Nat.le_of_ble_eq_true rfl) q156 (Or.inr q155) dJ2_fastRemove_2 rfl e (fun v1 _ e => ?_)
  refine v_iconst (pc' := 6) (v := 1) hc_J2_fastRemove dJ2_fastRemove_5 rfl rfl ?_
  refine v_iadd (pc' := 7) hc_J2_fastRemove dJ2_fastRemove_6 rfl ?_
  refine v_pf (pc' := 10) hc_J2_fastRemove ho_J2_fastRemove KJ2 0 (Nat.le_of_ble_eq_true rfl) q156 (Or.inr q155) rfl dJ2_fastRemove_7 rfl rfl rfl e (fun h2 _ e => ?_)
  refine v_aload_n (pc' := 11) hc_J2_fastRemove dJ2_fastRemove_10 rfl rfl 0 rfl ?_
  refine v_gfI (pc' := 14) hc_J2_fastRemove ho_J2_fastRemove KJ2 2 (Nat.le_of_ble_eq_true rfl) q152 (Or.inl rfl) dJ2_fastRemove_11 rfl e (fun v3 _ e => ?_)
  refine v_iconst (pc' := 15) (v := 1) hc_J2_fastRemove dJ2_fastRemove_14 rfl rfl ?_
  refine v_isub (pc' := 16) hc_J2_fastRemove dJ2_fastRemove_15 rfl ?_
  refine v_dup (pc' := 17) hc_J2_fastRemove dJ2_fastRemove_16 rfl rfl ?_
  refine v_istore_n (pc' := 18) (lv' := [(3, .int (v3 - (1 : Int32))), (0, .ref x0), (1, .ref x1), (2, .int x2)]) hc_J2_fastRemove dJ2_fastRemove_17 rfl rfl (Nat.le_of_ble_eq_true rfl) rfl ?_
  refine v_iload_n (pc' := 19) hc_J2_fastRemove dJ2_fastRemove_18 rfl rfl 3 rfl ?_
  refine v_icmp_le (pt := 34) (pf := 22) hc_J2_fastRemove dJ2_fastRemove_19 rfl rfl e (fun _ e => ?_) (fun _ e => ?_)
  · refine v_aload_n (pc' := 35) hc_J2_fastRemove dJ2_fastRemove_34 rfl rfl 2 rfl ?_
    refine v_aload_n (pc' := 36) hc_J2_fastRemove dJ2_fastRemove_35 rfl rfl 1 rfl ?_
    refine v_iload_n (pc' := 37) hc_J2_fastRemove dJ2_fastRemove_36 rfl rfl 0 rfl ?_
    refine v_dup_x1 (pc' := 38) hc_J2_fastRemove dJ2_fastRemove_37 rfl rfl rfl ?_
    refine v_pf (pc' := 41) hc_J2_fastRemove ho_J2_fastRemove KJ2 2 (Nat.le_of_ble_eq_true rfl) q152 (Or.inl rfl) rfl dJ2_fastRemove_38 rfl rfl rfl e (fun h4 _ e => ?_)
    refine v_null (pc' := 42) hc_J2_fastRemove dJ2_fastRemove_41 rfl ?_
    refine v_aastN (pc' := 43) hc_J2_fastRemove dJ2_fastRemove_42 rfl e (fun h5 _ e => ?_)
    obtain ⟨rfl, rfl⟩ := ret_of e
    exact v_ret hc_J2_fastRemove rfl dJ2_fastRemove_43 rfl rfl
  · refine v_aload_n (pc' := 23) hc_J2_fastRemove dJ2_fastRemove_22 rfl rfl 2 rfl ?_
    refine v_iload_n (pc' := 24) hc_J2_fastRemove dJ2_fastRemove_23 rfl rfl 3 rfl ?_
    refine v_iconst (pc' := 25) (v := 1) hc_J2_fastRemove dJ2_fastRemove_24 rfl rfl ?_
    refine v_iadd (pc' := 26) hc_J2_fastRemove dJ2_fastRemove_25 rfl ?_
    refine v_aload_n (pc' := 27) hc_J2_fastRemove dJ2_fastRemove_26 rfl rfl 2 rfl ?_
    refine v_iload_n (pc' := 28) hc_J2_fastRemove dJ2_fastRemove_27 rfl rfl 3 rfl ?_
    refine v_iload_n (pc' := 29) hc_J2_fastRemove dJ2_fastRemove_28 rfl rfl 0 rfl ?_
    refine v_iload_n (pc' := 30) hc_J2_fastRemove dJ2_fastRemove_29 rfl rfl 3 rfl ?_
    refine v_isub (pc' := 31) hc_J2_fastRemove dJ2_fastRemove_30 rfl ?_
    refine v_cpQ (pc' := 34) hc_J2_fastRemove ho_J2_fastRemove q862 q637 q636 q96 ⟨Nat.le_of_ble_eq_true rfl, Nat.le_of_ble_eq_true rfl⟩ dJ2_fastRemove_31 rfl e (fun h6 _ e => ?_)
    refine v_aload_n (pc' := 35) hc_J2_fastRemove dJ2_fastRemove_34 rfl rfl 2 rfl ?_
    refine v_aload_n (pc' := 36) hc_J2_fastRemove dJ2_fastRemove_35 rfl rfl 1 rfl ?_
    refine v_iload_n (pc' := 37) hc_J2_fastRemove dJ2_fastRemove_36 rfl rfl 0 rfl ?_
    refine v_dup_x1 (pc' := 38) hc_J2_fastRemove dJ2_fastRemove_37 rfl rfl rfl ?_
    refine v_pf (pc' := 41) hc_J2_fastRemove ho_J2_fastRemove KJ2 2 (Nat.le_of_ble_eq_true rfl) q152 (Or.inl rfl) rfl dJ2_fastRemove_38 rfl rfl rfl e (fun h7 _ e => ?_)
    refine v_null (pc' := 42) hc_J2_fastRemove dJ2_fastRemove_41 rfl ?_
    refine v_aastN (pc' := 43) hc_J2_fastRemove dJ2_fastRemove_42 rfl e (fun h8 _ e => ?_)
    obtain ⟨rfl, rfl⟩ := ret_of e
    exact v_ret hc_J2_fastRemove rfl dJ2_fastRemove_43 rfl rfl
theorem w_J2_fastRemove (D : va_G) (l : Launch) (hl : l.stackTraces = false) (x0 : Nat) (x1 : Nat) (x2 : Int32) (h : AH) {r : Unit} {hF : AH} (e : f_J2_fastRemove x0 x1 x2 h = some (r, hF)) : MetV D l yJ2_fastRemove (Cond.code yJ2_fastRemove cJ2_fastRemove 4 (Option.none : Option FieldType)) 1 64 [.ref x0, .ref x1, .int x2] h hF (oV r) :=
  met_ofF (by decide +kernel) hl (Nat.le_of_ble_eq_true rfl) rfl (v_J2_fastRemove D l hl [.ref x0, .ref x1, .int x2] h x0 x1 x2 h e)
/-! java/util/ArrayList.remove(I)Ljava/lang/Object;  -/
abbrev G_J2_remove (D : va_G) (l : Launch) (as : List Value) (h0 hF : AH) (o : Out) : CT := (D, l, (yJ2_remove.cls, yJ2_remove, cJ2_remove, 4, (Option.some (.object "java/lang/Object")), 3, 91, []), as, h0, hF, o)
theorem hc_J2_remove {D : va_G} {l : Launch} {as : List Value} {h0 hF : AH} {o : Out} : gC (G_J2_remove D l as h0 hF o) = cJ2_remove := rfl
theorem ho_J2_remove {D : va_G} {l : Launch} {as : List Value} {h0 hF : AH} {o : Out} : gO (G_J2_remove D l as h0 hF o) = "java/util/ArrayList" := rfl
theorem hp_J2_remove {D : va_G} {l : Launch} {as : List Value} {h0 hF : AH} {o : Out} (pc : Nat) : ∀ z ∈ tableOf (gHd (G_J2_remove D l as h0 hF o)), covers z pc = false := hpN
def f_J2_remove (x0 : Nat) (x1 : Int32) (h : AH) : Option (Nat × AH) :=
  bd (gtI h 16 x0 2) fun v1 =>
  bd2 (f_J18_checkIndex x1 v1 h) fun r2 h3 =>
  bd (gtR h3 16 x0 1) fun v5 =>
  bd (ldN h3 v5 x1) fun v6 =>
  gd (isC h3 16 x0) <|
  bd2 (f_J2_fastRemove x0 v5 x1 h3) fun r8 h9 =>
  some (v6, h9)
theorem v_J2_remove (D : va_G) (l : Launch) (hl : l.stackTraces = false) (as : List Value) (h0 : AH) {r : Nat} {hF : AH} (x0 : Nat) (x1 : Int32) (h : AH) (e : f_J2_remove x0 x1 h = some (r, hF)) : V (G_J2_remove D l as h0 hF (oR r)) h 0 [(0, .ref x0), (1, .int x1)] [] := by
  unfold f_J2_remove at e
  refine v_iload_n (pc' := 1) hc_J2_remove dJ2_remove_0 rfl rfl 1 rfl ?_
  refine v_aload_n (pc' := 2) hc_J2_remove dJ2_remove_1 rfl rfl 0 rfl ?_
  refine v_gfI (pc' := 5) hc_J2_remove ho_J2_remove KJ2 2 (Nat.le_of_ble_eq_true rfl) q152 (Or.inl rfl) dJ2_remove_2 rfl e (fun v1 _ e => ?_)
  obtain ⟨r2, h3, e4, e⟩ := bd2_of e
  refine k_S (pc' := 8) (n := 2) hc_J2_remove ho_J2_remove (w_J18_checkIndex D l hl x1 v1 h e4) (wA_l q406) q407 q100 q408 hy_21 ⟨Nat.le_of_ble_eq_true rfl, Nat.le_of_ble_eq_true rfl⟩ rfl rfl (Nat.le_of_ble_eq_true rfl) dJ2_remove_5 rfl (kS ?_) kN
  refine v_pop (pc' := 9) hc_J2_remove dJ2_remove_8 rfl rfl ?_
  refine v_aload_n (pc' := 10) hc_J2_remove dJ2_remove_9 rfl rfl 0 rfl ?_
  refine v_gfR (pc' := 13) hc_J2_remove ho_J2_remove KJ2 1 (Nat.le_of_ble_eq_true rfl) q149 (Or.inl rfl) dJ2_remove_10 rfl e (fun v5 _ e => ?_)
  refine v_astore_n (pc' := 14) (lv' := [(2, .ref v5), (0, .ref x0), (1, .int x1)]) hc_J2_remove dJ2_remove_13 rfl rfl (Nat.le_of_ble_eq_true rfl) rfl ?_
  refine v_aload_n (pc' := 15) hc_J2_remove dJ2_remove_14 rfl rfl 0 rfl ?_
  refine v_iload_n (pc' := 16) hc_J2_remove dJ2_remove_15 rfl rfl 2 rfl ?_
  refine v_aald (pc' := 17) hc_J2_remove dJ2_remove_16 rfl e (fun v6 _ e => ?_)
  refine v_astore_n (pc' := 18) (lv' := [(3, .ref v6), (2, .ref v5), (0, .ref x0), (1, .int x1)]) hc_J2_remove dJ2_remove_17 rfl rfl (Nat.le_of_ble_eq_true rfl) rfl ?_
  refine v_aload_n (pc' := 19) hc_J2_remove dJ2_remove_18 rfl rfl 2 rfl ?_
  refine v_aload_n (pc' := 20) hc_J2_remove dJ2_remove_19 rfl rfl 1 rfl ?_
  refine v_iload_n (pc' := 21) hc_J2_remove dJ2_remove_20 rfl rfl 3 rfl ?_
  obtain ⟨c7, e⟩ := gd_of e
  obtain ⟨r8, h9, e10, e⟩ := bd2_of e
  refine k_V (pc' := 24) (ci := 16) (n := 2) hc_J2_remove ho_J2_remove rfl c7 (w_J2_fastRemove D l hl x0 v5 x1 h3 e10) (wA_l q1434) q1436 (wA_l qs13) q79 q1437 hy_88 ⟨Nat.le_of_ble_eq_true rfl, Nat.le_of_ble_eq_true rfl⟩ rfl rfl (Nat.le_of_ble_eq_true rfl) dJ2_remove_21 rfl (kU ?_) kN
  refine v_aload_n (pc' := 25) hc_J2_remove dJ2_remove_24 rfl rfl 0 rfl ?_
  obtain ⟨rfl, rfl⟩ := ret_of e
  exact v_aret hc_J2_remove rfl (Or.inl ⟨_, rfl⟩) (Or.inr ⟨_, rfl⟩) dJ2_remove_25 rfl rfl
theorem w_J2_remove (D : va_G) (l : Launch) (hl : l.stackTraces = false) (x0 : Nat) (x1 : Int32) (h : AH) {r : Nat} {hF : AH} (e : f_J2_remove x0 x1 h = some (r, hF)) : MetV D l yJ2_remove (Cond.code yJ2_remove cJ2_remove 4 (Option.some (.object "java/lang/Object"))) 3 91 [.ref x0, .int x1] h hF (oR r) :=
  met_ofF (by decide +kernel) hl (Nat.le_of_ble_eq_true rfl) rfl (v_J2_remove D l hl [.ref x0, .int x1] h x0 x1 h e)
/-! java/util/ArrayDeque.sub(III)I  -/
abbrev G_J3_sub (D : va_G) (l : Launch) (as : List Value) (h0 hF : AH) (o : Out) : CT := (D, l, (yJ3_sub.cls, yJ3_sub, cJ3_sub, 3, (Option.some .int), 1, 48, []), as, h0, hF, o)
theorem hc_J3_sub {D : va_G} {l : Launch} {as : List Value} {h0 hF : AH} {o : Out} : gC (G_J3_sub D l as h0 hF o) = cJ3_sub := rfl
theorem ho_J3_sub {D : va_G} {l : Launch} {as : List Value} {h0 hF : AH} {o : Out} : gO (G_J3_sub D l as h0 hF o) = "java/util/ArrayDeque" := rfl
theorem hp_J3_sub {D : va_G} {l : Launch} {as : List Value} {h0 hF : AH} {o : Out} (pc : Nat) : ∀ z ∈ tableOf (gHd (G_J3_sub D l as h0 hF o)), covers z pc = false := hpN
def f_J3_sub (x0 : Int32) (x1 : Int32) (x2 : Int32) (h : AH) : Option (Int32 × AH) :=
  if 0 ≤ (x0 - x1) then (
    some ((x0 - x1), h)
  ) else (
    some (((x0 - x1) + x2), h)
  )
theorem v_J3_sub (D : va_G) (l : Launch) (hl : l.stackTraces = false) (as : List Value) (h0 : AH) {r : Int32} {hF : AH} (x0 : Int32) (x1 : Int32) (x2 : Int32) (h : AH) (e : f_J3_sub x0 x1 x2 h = some (r, hF)) : V (G_J3_sub D l as h0 hF (oI r)) h 0 [(0, .int x0), (1, .int x1), (2, .int x2)] [] := by
  unfold f_J3_sub at e
  refine v_iload_n (pc' := 1) hc_J3_sub dJ3_sub_0 rfl rfl 0 rfl ?_
  refine v_iload_n (pc' := 2) hc_J3_sub dJ3_sub_1 rfl rfl 1 rfl ?_
  refine v_isub (pc' := 3) hc_J3_sub dJ3_sub_2 rfl ?_
  refine v_dup (pc' := 4) hc_J3_sub dJ3_sub_3 rfl rfl ?_
  refine v_istore_n (pc' := 5) (lv' := [(0, .int (x0 - x1)), (1, .int x1), (2, .int x2)]) hc_J3_sub dJ3_sub_4 rfl rfl (Nat.le_of_ble_eq_true rfl) rfl ?_
  refine v_if_ge (pt := 12) (pf := 8) hc_J3_sub dJ3_sub_5 rfl rfl e (fun _ e => ?_) (fun _ e => ?_)
  · refine v_iload_n (pc' := 13) hc_J3_sub dJ3_sub_12 rfl rfl 0 rfl ?_
    obtain ⟨rfl, rfl⟩ := ret_of e
    exact v_iret hc_J3_sub rfl dJ3_sub_13 rfl rfl
  · refine v_iload_n (pc' := 9) hc_J3_sub dJ3_sub_8 rfl rfl 0 rfl ?_
    refine v_iload_n (pc' := 10) hc_J3_sub dJ3_sub_9 rfl rfl 2 rfl ?_
    refine v_iadd (pc' := 11) hc_J3_sub dJ3_sub_10 rfl ?_
    refine v_istore_n (pc' := 12) (lv' := [(0, .int ((x0 - x1) + x2)), (1, .int x1), (2, .int x2)]) hc_J3_sub dJ3_sub_11 rfl rfl (Nat.le_of_ble_eq_true rfl) rfl ?_
    refine v_iload_n (pc' := 13) hc_J3_sub dJ3_sub_12 rfl rfl 0 rfl ?_
    obtain ⟨rfl, rfl⟩ := ret_of e
    exact v_iret hc_J3_sub rfl dJ3_sub_13 rfl rfl
theorem w_J3_sub (D : va_G) (l : Launch) (hl : l.stackTraces = false) (x0 : Int32) (x1 : Int32) (x2 : Int32) (h : AH) {r : Int32} {hF : AH} (e : f_J3_sub x0 x1 x2 h = some (r, hF)) : MetV D l yJ3_sub (Cond.code yJ3_sub cJ3_sub 3 (Option.some .int)) 1 48 [.int x0, .int x1, .int x2] h hF (oI r) :=
  met_ofF (by decide +kernel) hl (Nat.le_of_ble_eq_true rfl) rfl (v_J3_sub D l hl [.int x0, .int x1, .int x2] h x0 x1 x2 h e)
/-! java/util/ArrayDeque.size()I  -/
abbrev G_J3_size (D : va_G) (l : Launch) (as : List Value) (h0 hF : AH) (o : Out) : CT := (D, l, (yJ3_size.cls, yJ3_size, cJ3_size, 1, (Option.some .int), 2, 70, []), as, h0, hF, o)
theorem hc_J3_size {D : va_G} {l : Launch} {as : List Value} {h0 hF : AH} {o : Out} : gC (G_J3_size D l as h0 hF o) = cJ3_size := rfl
theorem ho_J3_size {D : va_G} {l : Launch} {as : List Value} {h0 hF : AH} {o : Out} : gO (G_J3_size D l as h0 hF o) = "java/util/ArrayDeque" := rfl
theorem hp_J3_size {D : va_G} {l : Launch} {as : List Value} {h0 hF : AH} {o : Out} (pc : Nat) : ∀ z ∈ tableOf (gHd (G_J3_size D l as h0 hF o)), covers z pc = false := hpN
def f_J3_size (x0 : Nat) (h : AH) : Option (Int32 × AH) :=
  bd (gtI h 17 x0 2) fun v1 =>
  bd (gtI h 17 x0 1) fun v2 =>
  bd (gtR h 17 x0 0) fun v3 =>
  bd (aLn h v3) fun v4 =>
  bd2 (f_J3_sub v1 v2 v4 h) fun r5 h6 =>
  some (r5, h6)
theorem v_J3_size (D : va_G) (l : Launch) (hl : l.stackTraces = false) (as : List Value) (h0 : AH) {r : Int32} {hF : AH} (x0 : Nat) (h : AH) (e : f_J3_size x0 h = some (r, hF)) : V (G_J3_size D l as h0 hF (oI r)) h 0 [(0, .ref x0)] [] := by
  unfold f_J3_size at e
  refine v_aload_n (pc' := 1) hc_J3_size dJ3_size_0 rfl rfl 0 rfl ?_
  refine v_gfI (pc' := 4) hc_J3_size ho_J3_size KJ3 2 (Nat.le_of_ble_eq_true rfl) q193 (Or.inl rfl) dJ3_size_1 rfl e (fun v1 _ e => ?_)
  refine v_aload_n (pc' := 5) hc_J3_size dJ3_size_4 rfl rfl 0 rfl ?_
  refine v_gfI (pc' := 8) hc_J3_size ho_J3_size KJ3 1 (Nat.le_of_ble_eq_true rfl) q192 (Or.inl rfl) dJ3_size_5 rfl e (fun v2 _ e => ?_)
  refine v_aload_n (pc' := 9) hc_J3_size dJ3_size_8 rfl rfl 0 rfl ?_
  refine v_gfR (pc' := 12) hc_J3_size ho_J3_size KJ3 0 (Nat.le_of_ble_eq_true rfl) q191 (Or.inl rfl) dJ3_size_9 rfl e (fun v3 _ e => ?_)
  refine v_alen (pc' := 13) hc_J3_size dJ3_size_12 rfl e (fun v4 _ e => ?_)
  obtain ⟨r5, h6, e7, e⟩ := bd2_of e
  refine k_S (pc' := 16) (n := 3) hc_J3_size ho_J3_size (w_J3_sub D l hl v1 v2 v4 h e7) (wA_l q530) q531 q80 q532 hy_96 ⟨Nat.le_of_ble_eq_true rfl, Nat.le_of_ble_eq_true rfl⟩ rfl rfl (Nat.le_of_ble_eq_true rfl) dJ3_size_13 rfl (kS ?_) kN
  obtain ⟨rfl, rfl⟩ := ret_of e
  exact v_iret hc_J3_size rfl dJ3_size_16 rfl rfl
theorem w_J3_size (D : va_G) (l : Launch) (hl : l.stackTraces = false) (x0 : Nat) (h : AH) {r : Int32} {hF : AH} (e : f_J3_size x0 h = some (r, hF)) : MetV D l yJ3_size (Cond.code yJ3_size cJ3_size 1 (Option.some .int)) 2 70 [.ref x0] h hF (oI r) :=
  met_ofF (by decide +kernel) hl (Nat.le_of_ble_eq_true rfl) rfl (v_J3_size D l hl [.ref x0] h x0 h e)
/-! java/util/ArrayDeque.dec(II)I  -/
abbrev G_J3_dec (D : va_G) (l : Launch) (as : List Value) (h0 hF : AH) (o : Out) : CT := (D, l, (yJ3_dec.cls, yJ3_dec, cJ3_dec, 2, (Option.some .int), 1, 48, []), as, h0, hF, o)
theorem hc_J3_dec {D : va_G} {l : Launch} {as : List Value} {h0 hF : AH} {o : Out} : gC (G_J3_dec D l as h0 hF o) = cJ3_dec := rfl
theorem ho_J3_dec {D : va_G} {l : Launch} {as : List Value} {h0 hF : AH} {o : Out} : gO (G_J3_dec D l as h0 hF o) = "java/util/ArrayDeque" := rfl
theorem hp_J3_dec {D : va_G} {l : Launch} {as : List Value} {h0 hF : AH} {o : Out} (pc : Nat) : ∀ z ∈ tableOf (gHd (G_J3_dec D l as h0 hF o)), covers z pc = false := hpN
def f_J3_dec (x0 : Int32) (x1 : Int32) (h : AH) : Option (Int32 × AH) :=
  if 0 ≤ (x0 + (-1)) then (
    some ((x0 + (-1)), h)
  ) else (
    some ((x1 - (1 : Int32)), h)
  )
theorem v_J3_dec (D : va_G) (l : Launch) (hl : l.stackTraces = false) (as : List Value) (h0 : AH) {r : Int32} {hF : AH} (x0 : Int32) (x1 : Int32) (h : AH) (e : f_J3_dec x0 x1 h = some (r, hF)) : V (G_J3_dec D l as h0 hF (oI r)) h 0 [(0, .int x0), (1, .int x1)] [] := by
  unfold f_J3_dec at e
  refine v_iinc (pc' := 3) (lv' := [(0, .int (x0 + (-1))), (1, .int x1)]) (v := x0 + (-1)) hc_J3_dec dJ3_dec_0 rfl 0 rfl rfl (Nat.le_of_ble_eq_true rfl) rfl ?_
  refine v_iload_n (pc' := 4) hc_J3_dec dJ3_dec_3 rfl rfl 0 rfl ?_
  refine v_if_ge (pt := 11) (pf := 7) hc_J3_dec dJ3_dec_4 rfl rfl e (fun _ e => ?_) (fun _ e => ?_)
  · refine v_iload_n (pc' := 12) hc_J3_dec dJ3_dec_11 rfl rfl 0 rfl ?_
    obtain ⟨rfl, rfl⟩ := ret_of e
    exact v_iret hc_J3_dec rfl dJ3_dec_12 rfl rfl
  · refine v_iload_n (pc' := 8) hc_J3_dec dJ3_dec_7 rfl rfl 1 rfl ?_
    refine v_iconst (pc' := 9) (v := 1) hc_J3_dec dJ3_dec_8 rfl rfl ?_
    refine v_isub (pc' := 10) hc_J3_dec dJ3_dec_9 rfl ?_
    refine v_istore_n (pc' := 11) (lv' := [(0, .int (x1 - (1 : Int32))), (1, .int x1)]) hc_J3_dec dJ3_dec_10 rfl rfl (Nat.le_of_ble_eq_true rfl) rfl ?_
    refine v_iload_n (pc' := 12) hc_J3_dec dJ3_dec_11 rfl rfl 0 rfl ?_
    obtain ⟨rfl, rfl⟩ := ret_of e
    exact v_iret hc_J3_dec rfl dJ3_dec_12 rfl rfl
theorem w_J3_dec (D : va_G) (l : Launch) (hl : l.stackTraces = false) (x0 : Int32) (x1 : Int32) (h : AH) {r : Int32} {hF : AH} (e : f_J3_dec x0 x1 h = some (r, hF)) : MetV D l yJ3_dec (Cond.code yJ3_dec cJ3_dec 2 (Option.some .int)) 1 48 [.int x0, .int x1] h hF (oI r) :=
  met_ofF (by decide +kernel) hl (Nat.le_of_ble_eq_true rfl) rfl (v_J3_dec D l hl [.int x0, .int x1] h x0 x1 h e)
/-! java/util/ArrayDeque.elementAt([Ljava/lang/Object;I)Ljava/lang/Object;  -/
abbrev G_J3_elementAt (D : va_G) (l : Launch) (as : List Value) (h0 hF : AH) (o : Out) : CT := (D, l, (yJ3_elementAt.cls, yJ3_elementAt, cJ3_elementAt, 2, (Option.some (.object "java/lang/Object")), 1, 48, []), as, h0, hF, o)
theorem hc_J3_elementAt {D : va_G} {l : Launch} {as : List Value} {h0 hF : AH} {o : Out} : gC (G_J3_elementAt D l as h0 hF o) = cJ3_elementAt := rfl
theorem ho_J3_elementAt {D : va_G} {l : Launch} {as : List Value} {h0 hF : AH} {o : Out} : gO (G_J3_elementAt D l as h0 hF o) = "java/util/ArrayDeque" := rfl
theorem hp_J3_elementAt {D : va_G} {l : Launch} {as : List Value} {h0 hF : AH} {o : Out} (pc : Nat) : ∀ z ∈ tableOf (gHd (G_J3_elementAt D l as h0 hF o)), covers z pc = false := hpN
def f_J3_elementAt (x0 : Nat) (x1 : Int32) (h : AH) : Option (Nat × AH) :=
  bd (ldN h x0 x1) fun v1 =>
  some (v1, h)
theorem v_J3_elementAt (D : va_G) (l : Launch) (hl : l.stackTraces = false) (as : List Value) (h0 : AH) {r : Nat} {hF : AH} (x0 : Nat) (x1 : Int32) (h : AH) (e : f_J3_elementAt x0 x1 h = some (r, hF)) : V (G_J3_elementAt D l as h0 hF (oR r)) h 0 [(0, .ref x0), (1, .int x1)] [] := by
  unfold f_J3_elementAt at e
  refine v_aload_n (pc' := 1) hc_J3_elementAt dJ3_elementAt_0 rfl rfl 0 rfl ?_
  refine v_iload_n (pc' := 2) hc_J3_elementAt dJ3_elementAt_1 rfl rfl 1 rfl ?_
  refine v_aald (pc' := 3) hc_J3_elementAt dJ3_elementAt_2 rfl e (fun v1 _ e => ?_)
  obtain ⟨rfl, rfl⟩ := ret_of e
  exact v_aret hc_J3_elementAt rfl (Or.inl ⟨_, rfl⟩) (Or.inr ⟨_, rfl⟩) dJ3_elementAt_3 rfl rfl
theorem w_J3_elementAt (D : va_G) (l : Launch) (hl : l.stackTraces = false) (x0 : Nat) (x1 : Int32) (h : AH) {r : Nat} {hF : AH} (e : f_J3_elementAt x0 x1 h = some (r, hF)) : MetV D l yJ3_elementAt (Cond.code yJ3_elementAt cJ3_elementAt 2 (Option.some (.object "java/lang/Object"))) 1 48 [.ref x0, .int x1] h hF (oR r) :=
  met_ofF (by decide +kernel) hl (Nat.le_of_ble_eq_true rfl) rfl (v_J3_elementAt D l hl [.ref x0, .int x1] h x0 x1 h e)
/-! java/util/ArrayDeque.pollLast()Ljava/lang/Object;  -/
abbrev G_J3_pollLast (D : va_G) (l : Launch) (as : List Value) (h0 hF : AH) (o : Out) : CT := (D, l, (yJ3_pollLast.cls, yJ3_pollLast, cJ3_pollLast, 4, (Option.some (.object "java/lang/Object")), 2, 69, []), as, h0, hF, o)
theorem hc_J3_pollLast {D : va_G} {l : Launch} {as : List Value} {h0 hF : AH} {o : Out} : gC (G_J3_pollLast D l as h0 hF o) = cJ3_pollLast := rfl
theorem ho_J3_pollLast {D : va_G} {l : Launch} {as : List Value} {h0 hF : AH} {o : Out} : gO (G_J3_pollLast D l as h0 hF o) = "java/util/ArrayDeque" := rfl
theorem hp_J3_pollLast {D : va_G} {l : Launch} {as : List Value} {h0 hF : AH} {o : Out} (pc : Nat) : ∀ z ∈ tableOf (gHd (G_J3_pollLast D l as h0 hF o)), covers z pc = false := hpN
def f_J3_pollLast (x0 : Nat) (h : AH) : Option (Nat × AH) :=
  bd (gtR h 17 x0 0) fun v1 =>
  bd (gtI h 17 x0 2) fun v2 =>
  bd (aLn h v1) fun v3 =>
  bd2 (f_J3_dec v2 v3 h) fun r4 h5 =>
  bd2 (f_J3_elementAt v1 r4 h5) fun r7 h8 =>
  bd (stF h8 17 x0 2 (.int r4)) fun h10 =>
  bd (stQ h10 v1 r4 none) fun h11 =>
  some (r7, h11)
theorem v_J3_pollLast (D : va_G) (l : Launch) (hl : l.stackTraces = false) (as : List Value) (h0 : AH) {r : Nat} {hF : AH} (x0 : Nat) (h : AH) (e : f_J3_pollLast x0 h = some (r, hF)) : V (G_J3_pollLast D l as h0 hF (oR r)) h 0 [(0, .ref x0)] [] := by
  unfold f_J3_pollLast at e
  refine v_aload_n (pc' := 1) hc_J3_pollLast dJ3_pollLast_0 rfl rfl 0 rfl ?_
  refine v_gfR (pc' := 4) hc_J3_pollLast ho_J3_pollLast KJ3 0 (Nat.le_of_ble_eq_true rfl) q191 (Or.inl rfl) dJ3_pollLast_1 rfl e (fun v1 _ e => ?_)
  refine v_dup (pc' := 5) hc_J3_pollLast dJ3_pollLast_4 rfl rfl ?_
  refine v_astore_n (pc' := 6) (lv' := [(1, .ref v1), (0, .ref x0)]) hc_J3_pollLast dJ3_pollLast_5 rfl rfl (Nat.le_of_ble_eq_true rfl) rfl ?_
  refine v_aload_n (pc' := 7) hc_J3_pollLast dJ3_pollLast_6 rfl rfl 1 rfl ?_
  refine v_gfI (pc' := 10) hc_J3_pollLast ho_J3_pollLast KJ3 2 (Nat.le_of_ble_eq_true rfl) q193 (Or.inl rfl) dJ3_pollLast_7 rfl e (fun v2 _ e => ?_)
  refine v_aload_n (pc' := 11) hc_J3_pollLast dJ3_pollLast_10 rfl rfl 0 rfl ?_
  refine v_alen (pc' := 12) hc_J3_pollLast dJ3_pollLast_11 rfl e (fun v3 _ e => ?_)
  obtain ⟨r4, h5, e6, e⟩ := bd2_of e
  refine k_S (pc' := 15) (n := 2) hc_J3_pollLast ho_J3_pollLast (w_J3_dec D l hl v2 v3 h e6) (wA_l q1496) q1497 q80 q1498 hy_98 ⟨Nat.le_of_ble_eq_true rfl, Nat.le_of_ble_eq_true rfl⟩ rfl rfl (Nat.le_of_ble_eq_true rfl) dJ3_pollLast_12 rfl (kS ?_) kN
  refine v_dup (pc' := 16) hc_J3_pollLast dJ3_pollLast_15 rfl rfl ?_
  refine v_istore_n (pc' := 17) (lv' := [(2, .int r4), (1, .ref v1), (0, .ref x0)]) hc_J3_pollLast dJ3_pollLast_16 rfl rfl (Nat.le_of_ble_eq_true rfl) rfl ?_
  obtain ⟨r7, h8, e9, e⟩ := bd2_of e
  refine k_S (pc' := 20) (n := 2) hc_J3_pollLast ho_J3_pollLast (w_J3_elementAt D l hl v1 r4 h5 e9) (wA_l q1499) q1500 q80 q1501 hy_99 ⟨Nat.le_of_ble_eq_true rfl, Nat.le_of_ble_eq_true rfl⟩ rfl rfl (Nat.le_of_ble_eq_true rfl) dJ3_pollLast_17 rfl (kS ?_) kN
  refine v_astore_n (pc' := 21) (lv' := [(3, .ref r7), (2, .int r4), (1, .ref v1), (0, .ref x0)]) hc_J3_pollLast dJ3_pollLast_20 rfl rfl (Nat.le_of_ble_eq_true rfl) rfl ?_
  refine v_aload_n (pc' := 22) hc_J3_pollLast dJ3_pollLast_21 rfl rfl 0 rfl ?_
  refine v_ifnull (pc' := 25) hc_J3_pollLast dJ3_pollLast_22 rfl ?_
  refine v_aload_n (pc' := 26) hc_J3_pollLast dJ3_pollLast_25 rfl rfl 2 rfl ?_
  refine v_aload_n (pc' := 27) hc_J3_pollLast dJ3_pollLast_26 rfl rfl 3 rfl ?_
  refine v_iload_n (pc' := 28) hc_J3_pollLast dJ3_pollLast_27 rfl rfl 1 rfl ?_
  refine v_dup_x1 (pc' := 29) hc_J3_pollLast dJ3_pollLast_28 rfl rfl rfl ?_
  refine v_pf (pc' := 32) hc_J3_pollLast ho_J3_pollLast KJ3 2 (Nat.le_of_ble_eq_true rfl) q193 (Or.inl rfl) rfl dJ3_pollLast_29 rfl rfl rfl e (fun h10 _ e => ?_)
  refine v_null (pc' := 33) hc_J3_pollLast dJ3_pollLast_32 rfl ?_
  refine v_aastN (pc' := 34) hc_J3_pollLast dJ3_pollLast_33 rfl e (fun h11 _ e => ?_)
  refine v_aload_n (pc' := 35) hc_J3_pollLast dJ3_pollLast_34 rfl rfl 0 rfl ?_
  obtain ⟨rfl, rfl⟩ := ret_of e
  exact v_aret hc_J3_pollLast rfl (Or.inl ⟨_, rfl⟩) (Or.inr ⟨_, rfl⟩) dJ3_pollLast_35 rfl rfl
theorem w_J3_pollLast (D : va_G) (l : Launch) (hl : l.stackTraces = false) (x0 : Nat) (h : AH) {r : Nat} {hF : AH} (e : f_J3_pollLast x0 h = some (r, hF)) : MetV D l yJ3_pollLast (Cond.code yJ3_pollLast cJ3_pollLast 4 (Option.some (.object "java/lang/Object"))) 2 69 [.ref x0] h hF (oR r) :=
  met_ofF (by decide +kernel) hl (Nat.le_of_ble_eq_true rfl) rfl (v_J3_pollLast D l hl [.ref x0] h x0 h e)
/-! java/util/ArrayDeque.removeLast()Ljava/lang/Object;  -/
abbrev G_J3_removeLast (D : va_G) (l : Launch) (as : List Value) (h0 hF : AH) (o : Out) : CT := (D, l, (yJ3_removeLast.cls, yJ3_removeLast, cJ3_removeLast, 2, (Option.some (.object "java/lang/Object")), 3, 92, []), as, h0, hF, o)
theorem hc_J3_removeLast {D : va_G} {l : Launch} {as : List Value} {h0 hF : AH} {o : Out} : gC (G_J3_removeLast D l as h0 hF o) = cJ3_removeLast := rfl
theorem ho_J3_removeLast {D : va_G} {l : Launch} {as : List Value} {h0 hF : AH} {o : Out} : gO (G_J3_removeLast D l as h0 hF o) = "java/util/ArrayDeque" := rfl
theorem hp_J3_removeLast {D : va_G} {l : Launch} {as : List Value} {h0 hF : AH} {o : Out} (pc : Nat) : ∀ z ∈ tableOf (gHd (G_J3_removeLast D l as h0 hF o)), covers z pc = false := hpN
def f_J3_removeLast (x0 : Nat) (h : AH) : Option (Nat × AH) :=
  gd (isC h 17 x0) <|
  bd2 (f_J3_pollLast x0 h) fun r2 h3 =>
  some (r2, h3)
theorem v_J3_removeLast (D : va_G) (l : Launch) (hl : l.stackTraces = false) (as : List Value) (h0 : AH) {r : Nat} {hF : AH} (x0 : Nat) (h : AH) (e : f_J3_removeLast x0 h = some (r, hF)) : V (G_J3_removeLast D l as h0 hF (oR r)) h 0 [(0, .ref x0)] [] := by
  unfold f_J3_removeLast at e
  refine v_aload_n (pc' := 1) hc_J3_removeLast dJ3_removeLast_0 rfl rfl 0 rfl ?_
  obtain ⟨c1, e⟩ := gd_of e
  obtain ⟨r2, h3, e4, e⟩ := bd2_of e
  refine k_V (pc' := 4) (ci := 17) (n := 0) hc_J3_removeLast ho_J3_removeLast rfl c1 (w_J3_pollLast D l hl x0 h e4) (wA_l q1492) q1493 (wA_l q1494) q80 q1495 hy_100 ⟨Nat.le_of_ble_eq_true rfl, Nat.le_of_ble_eq_true rfl⟩ rfl rfl (Nat.le_of_ble_eq_true rfl) dJ3_removeLast_1 rfl (kS ?_) kN
  refine v_astore_n (pc' := 5) (lv' := [(1, .ref r2), (0, .ref x0)]) hc_J3_removeLast dJ3_removeLast_4 rfl rfl (Nat.le_of_ble_eq_true rfl) rfl ?_
  refine v_aload_n (pc' := 6) hc_J3_removeLast dJ3_removeLast_5 rfl rfl 0 rfl ?_
  refine v_ifnonnull (pt := 17) hc_J3_removeLast dJ3_removeLast_6 rfl ?_
  refine v_aload_n (pc' := 18) hc_J3_removeLast dJ3_removeLast_17 rfl rfl 0 rfl ?_
  obtain ⟨rfl, rfl⟩ := ret_of e
  exact v_aret hc_J3_removeLast rfl (Or.inl ⟨_, rfl⟩) (Or.inr ⟨_, rfl⟩) dJ3_removeLast_18 rfl rfl
theorem w_J3_removeLast (D : va_G) (l : Launch) (hl : l.stackTraces = false) (x0 : Nat) (h : AH) {r : Nat} {hF : AH} (e : f_J3_removeLast x0 h = some (r, hF)) : MetV D l yJ3_removeLast (Cond.code yJ3_removeLast cJ3_removeLast 2 (Option.some (.object "java/lang/Object"))) 3 92 [.ref x0] h hF (oR r) :=
  met_ofF (by decide +kernel) hl (Nat.le_of_ble_eq_true rfl) rfl (v_J3_removeLast D l hl [.ref x0] h x0 h e)
/-! java/util/ArrayDeque.newCapacity(II)I  -/
abbrev G_J3_newCapacity (D : va_G) (l : Launch) (as : List Value) (h0 hF : AH) (o : Out) : CT := (D, l, (yJ3_newCapacity.cls, yJ3_newCapacity, cJ3_newCapacity, 5, (Option.some .int), 1, 48, []), as, h0, hF, o)
theorem hc_J3_newCapacity {D : va_G} {l : Launch} {as : List Value} {h0 hF : AH} {o : Out} : gC (G_J3_newCapacity D l as h0 hF o) = cJ3_newCapacity := rfl
theorem ho_J3_newCapacity {D : va_G} {l : Launch} {as : List Value} {h0 hF : AH} {o : Out} : gO (G_J3_newCapacity D l as h0 hF o) = "java/util/ArrayDeque" := rfl
theorem hp_J3_newCapacity {D : va_G} {l : Launch} {as : List Value} {h0 hF : AH} {o : Out} (pc : Nat) : ∀ z ∈ tableOf (gHd (G_J3_newCapacity D l as h0 hF o)), covers z pc = false := hpN
def f_J3_newCapacity (x0 : Nat) (x1 : Int32) (x2 : Int32) (h : AH) : Option (Int32 × AH) :=
  bd (gtR h 17 x0 0) fun v1 =>
  bd (aLn h v1) fun v2 =>
  if ((v2 + x1) - (2147483639 : Int32)) ≤ 0 then (
    if x1 ≤ x2 then (
      if 0 ≤ ((v2 + x2) - (2147483639 : Int32)) then (
        some ((2147483639 : Int32), h)
      ) else (
        some ((v2 + x2), h)
      )
    ) else (
      some ((v2 + x1), h)
    )
  ) else (
    if 0 ≤ (v2 + x1) then (
      some ((2147483647 : Int32), h)
    ) else (
      none
    )
  )
theorem v_J3_newCapacity (D : va_G) (l : Launch) (hl : l.stackTraces = false) (as : List Value) (h0 : AH) {r : Int32} {hF : AH} (x0 : Nat) (x1 : Int32) (x2 : Int32) (h : AH) (e : f_J3_newCapacity x0 x1 x2 h = some (r, hF)) : V (G_J3_newCapacity D l as h0 hF (oI r)) h 0 [(0, .ref x0), (1, .int x1), (2, .int x2)] [] := by
  unfold f_J3_newCapacity at e
  refine v_aload_n (pc' := 1) hc_J3_newCapacity dJ3_newCapacity_0 rfl rfl 0 rfl ?_
  refine v_gfR (pc' := 4) hc_J3_newCapacity ho_J3_newCapacity KJ3 0 (Nat.le_of_ble_eq_true rfl) q191 (Or.inl rfl) dJ3_newCapacity_1 rfl e (fun v1 _ e => ?_)
  refine v_alen (pc' := 5) hc_J3_newCapacity dJ3_newCapacity_4 rfl e (fun v2 _ e => ?_)
  refine v_istore_n (pc' := 6) (lv' := [(3, .int v2), (0, .ref x0), (1, .int x1), (2, .int x2)]) hc_J3_newCapacity dJ3_newCapacity_5 rfl rfl (Nat.le_of_ble_eq_true rfl) rfl ?_
  refine v_iload_n (pc' := 7) hc_J3_newCapacity dJ3_newCapacity_6 rfl rfl 0 rfl ?_
  refine v_iload_n (pc' := 8) hc_J3_newCapacity dJ3_newCapacity_7 rfl rfl 2 rfl ?_
  refine v_iadd (pc' := 9) hc_J3_newCapacity dJ3_newCapacity_8 rfl ?_
  refine v_dup (pc' := 10) hc_J3_newCapacity dJ3_newCapacity_9 rfl rfl ?_
  refine v_istore (pc' := 12) (lv' := [(4, .int (v2 + x1)), (3, .int v2), (0, .ref x0), (1, .int x1), (2, .int x2)]) hc_J3_newCapacity dJ3_newCapacity_10 rfl (Nat.le_of_ble_eq_true rfl) rfl ?_
  refine v_ldcI (pc' := 14) (x := 2147483639) hc_J3_newCapacity ho_J3_newCapacity q1516 dJ3_newCapacity_12 rfl ?_
  refine v_isub (pc' := 15) hc_J3_newCapacity dJ3_newCapacity_14 rfl ?_
  refine v_if_le (pt := 36) (pf := 18) hc_J3_newCapacity dJ3_newCapacity_15 rfl rfl e (fun _ e => ?_) (fun _ e => ?_)
  · refine v_iload_n (pc' := 37) hc_J3_newCapacity dJ3_newCapacity_36 rfl rfl 3 rfl ?_
    refine v_iload_n (pc' := 38) hc_J3_newCapacity dJ3_newCapacity_37 rfl rfl 4 rfl ?_
    refine v_icmp_le (pt := 44) (pf := 41) hc_J3_newCapacity dJ3_newCapacity_38 rfl rfl e (fun _ e => ?_) (fun _ e => ?_)
    · refine v_iload_n (pc' := 45) hc_J3_newCapacity dJ3_newCapacity_44 rfl rfl 1 rfl ?_
      refine v_iload_n (pc' := 46) hc_J3_newCapacity dJ3_newCapacity_45 rfl rfl 4 rfl ?_
      refine v_iadd (pc' := 47) hc_J3_newCapacity dJ3_newCapacity_46 rfl ?_
      refine v_ldcI (pc' := 49) (x := 2147483639) hc_J3_newCapacity ho_J3_newCapacity q1516 dJ3_newCapacity_47 rfl ?_
      refine v_isub (pc' := 50) hc_J3_newCapacity dJ3_newCapacity_49 rfl ?_
      refine v_if_ge (pt := 59) (pf := 53) hc_J3_newCapacity dJ3_newCapacity_50 rfl rfl e (fun _ e => ?_) (fun _ e => ?_)
      · refine v_ldcI (pc' := 61) (x := 2147483639) hc_J3_newCapacity ho_J3_newCapacity q1516 dJ3_newCapacity_59 rfl ?_
        obtain ⟨rfl, rfl⟩ := ret_of e
        exact v_iret hc_J3_newCapacity rfl dJ3_newCapacity_61 rfl rfl
      · refine v_iload_n (pc' := 54) hc_J3_newCapacity dJ3_newCapacity_53 rfl rfl 1 rfl ?_
        refine v_iload_n (pc' := 55) hc_J3_newCapacity dJ3_newCapacity_54 rfl rfl 4 rfl ?_
        refine v_iadd (pc' := 56) hc_J3_newCapacity dJ3_newCapacity_55 rfl ?_
        refine v_goto (pt := 61) hc_J3_newCapacity dJ3_newCapacity_56 rfl ?_
        obtain ⟨rfl, rfl⟩ := ret_of e
        exact v_iret hc_J3_newCapacity rfl dJ3_newCapacity_61 rfl rfl
    · refine v_iload (pc' := 43) hc_J3_newCapacity dJ3_newCapacity_41 rfl 0 rfl ?_
      obtain ⟨rfl, rfl⟩ := ret_of e
      exact v_iret hc_J3_newCapacity rfl dJ3_newCapacity_43 rfl rfl
  · refine v_iload (pc' := 20) hc_J3_newCapacity dJ3_newCapacity_18 rfl 0 rfl ?_
    refine v_if_ge (pt := 33) (pf := 23) hc_J3_newCapacity dJ3_newCapacity_20 rfl rfl e (fun _ e => ?_) (fun _ e => ?_)
    · refine v_ldcI (pc' := 35) (x := 2147483647) hc_J3_newCapacity ho_J3_newCapacity q1537 dJ3_newCapacity_33 rfl ?_
      obtain ⟨rfl, rfl⟩ := ret_of e
      exact v_iret hc_J3_newCapacity rfl dJ3_newCapacity_35 rfl rfl
    · exact nomatch e
theorem w_J3_newCapacity (D : va_G) (l : Launch) (hl : l.stackTraces = false) (x0 : Nat) (x1 : Int32) (x2 : Int32) (h : AH) {r : Int32} {hF : AH} (e : f_J3_newCapacity x0 x1 x2 h = some (r, hF)) : MetV D l yJ3_newCapacity (Cond.code yJ3_newCapacity cJ3_newCapacity 5 (Option.some .int)) 1 48 [.ref x0, .int x1, .int x2] h hF (oI r) :=
  met_ofF (by decide +kernel) hl (Nat.le_of_ble_eq_true rfl) rfl (v_J3_newCapacity D l hl [.ref x0, .int x1, .int x2] h x0 x1 x2 h e)
/-! java/util/ArrayDeque.grow(I)V  -/
abbrev G_J3_grow (D : va_G) (l : Launch) (as : List Value) (h0 hF : AH) (o : Out) : CT := (D, l, (yJ3_grow.cls, yJ3_grow, cJ3_grow, 9, (Option.none : Option FieldType), 4, 113, []), as, h0, hF, o)
theorem hc_J3_grow {D : va_G} {l : Launch} {as : List Value} {h0 hF : AH} {o : Out} : gC (G_J3_grow D l as h0 hF o) = cJ3_grow := rfl
theorem ho_J3_grow {D : va_G} {l : Launch} {as : List Value} {h0 hF : AH} {o : Out} : gO (G_J3_grow D l as h0 hF o) = "java/util/ArrayDeque" := rfl
theorem hp_J3_grow {D : va_G} {l : Launch} {as : List Value} {h0 hF : AH} {o : Out} (pc : Nat) : ∀ z ∈ tableOf (gHd (G_J3_grow D l as h0 hF o)), covers z pc = false := hpN
def fb_J3_grow_l145 (rec : Nat → Int32 → Int32 → AH → Option (Unit × AH)) (x5 : Nat) (x7 : Int32) (x8 : Int32) (h : AH) : Option (Unit × AH) :=
  if x8 ≤ x7 then (
    some ((), h)
  ) else (
    bd (stQ h x5 x7 none) fun h1 =>
    rec x5 (x7 + 1) x8 h1
  )
def f_J3_grow_l145 : Nat → Nat → Int32 → Int32 → AH → Option (Unit × AH)
  | 0 => fun _ _ _ _ => none
  | n + 1 => fb_J3_grow_l145 (f_J3_grow_l145 n) 
theorem w_J3_grow_l145 (D : va_G) (l : Launch) (hl : l.stackTraces = false) (as : List Value) (h0 : AH) {r : Unit} {hF : AH} : ∀ (n : Nat) (x5 : Nat) (x7 : Int32) (x8 : Int32) (h : AH), f_J3_grow_l145 n x5 x7 x8 h = some (r, hF) → V (G_J3_grow D l as h0 hF (oV r)) h 145 [(5, .ref x5), (7, .int x7), (8, .int x8)] [] := by
  intro n; induction n with
  | zero => intro x5 x7 x8 h e; exact absurd (show (none : Option (Unit × AH)) = some _ from e) (fun z => nomatch z)
  | succ n IH =>
    intro x5 x7 x8 h e
    have e : fb_J3_grow_l145 (f_J3_grow_l145 n) x5 x7 x8 h = some (r, hF) := e
    unfold fb_J3_grow_l145 at e
    refine v_iload (pc' := 147) hc_J3_grow dJ3_grow_145 rfl 1 rfl ?_
    refine v_iload (pc' := 149) hc_J3_grow dJ3_grow_147 rfl 2 rfl ?_
    refine v_icmp_ge (pt := 164) (pf := 152) hc_J3_grow dJ3_grow_149 rfl rfl e (fun _ e => ?_) (fun _ e => ?_)
    · obtain ⟨rfl, rfl⟩ := ret_of e
      exact v_ret hc_J3_grow rfl dJ3_grow_164 rfl rfl
    · refine v_aload (pc' := 154) hc_J3_grow dJ3_grow_152 rfl 0 rfl ?_
      refine v_iload (pc' := 156) hc_J3_grow dJ3_grow_154 rfl 1 rfl ?_
      refine v_null (pc' := 157) hc_J3_grow dJ3_grow_156 rfl ?_
      refine v_aastN (pc' := 158) hc_J3_grow dJ3_grow_157 rfl e (fun h1 _ e => ?_)
      refine v_iinc (pc' := 161) (lv' := [(7, .int (x7 + 1)), (5, .ref x5), (8, .int x8)]) (v := x7 + 1) hc_J3_grow dJ3_grow_158 rfl 1 rfl rfl (Nat.le_of_ble_eq_true rfl) rfl ?_
      refine v_goto (pt := 145) hc_J3_grow dJ3_grow_161 rfl ?_
      refine v_pick [1, 0, 2] rfl ?_
      exact IH x5 (x7 + 1) x8 h1 e
def f_J3_grow_j96 (x0 : Nat) (x2 : Int32) (x3 : Int32) (x5 : Nat) (h : AH) : Option (Unit × AH) :=
  bd (gtI h 17 x0 1) fun v1 =>
  bd (gtI h 17 x0 1) fun v2 =>
  bd (gtI h 17 x0 1) fun v3 =>
  bd (cpQ h x5 v1 x5 (v2 + (x3 - x2)) (x2 - v3)) fun h4 =>
  bd (gtI h4 17 x0 1) fun v5 =>
  bd (gtI h4 17 x0 1) fun v6 =>
  bd (stF h4 17 x0 1 (.int (v6 + (x3 - x2)))) fun h7 =>
  f_J3_grow_l145 NN x5 v5 (v6 + (x3 - x2)) h7
theorem w_J3_grow_j96 (D : va_G) (l : Launch) (hl : l.stackTraces = false) (as : List Value) (h0 : AH) {r : Unit} {hF : AH} (x0 : Nat) (x2 : Int32) (x3 : Int32) (x5 : Nat) (h : AH) (e : f_J3_grow_j96 x0 x2 x3 x5 h = some (r, hF)) : V (G_J3_grow D l as h0 hF (oV r)) h 96 [(0, .ref x0), (2, .int x2), (3, .int x3), (5, .ref x5)] [] := by
  unfold f_J3_grow_j96 at e
  refine v_iload_n (pc' := 97) hc_J3_grow dJ3_grow_96 rfl rfl 2 rfl ?_
  refine v_iload_n (pc' := 98) hc_J3_grow dJ3_grow_97 rfl rfl 1 rfl ?_
  refine v_isub (pc' := 99) hc_J3_grow dJ3_grow_98 rfl ?_
  refine v_istore (pc' := 101) (lv' := [(6, .int (x3 - x2)), (0, .ref x0), (2, .int x2), (3, .int x3), (5, .ref x5)]) hc_J3_grow dJ3_grow_99 rfl (Nat.le_of_ble_eq_true rfl) rfl ?_
  refine v_aload (pc' := 103) hc_J3_grow dJ3_grow_101 rfl 4 rfl ?_
  refine v_aload_n (pc' := 104) hc_J3_grow dJ3_grow_103 rfl rfl 1 rfl ?_
  refine v_gfI (pc' := 107) hc_J3_grow ho_J3_grow KJ3 1 (Nat.le_of_ble_eq_true rfl) q192 (Or.inl rfl) dJ3_grow_104 rfl e (fun v1 _ e => ?_)
  refine v_aload (pc' := 109) hc_J3_grow dJ3_grow_107 rfl 4 rfl ?_
  refine v_aload_n (pc' := 110) hc_J3_grow dJ3_grow_109 rfl rfl 1 rfl ?_
  refine v_gfI (pc' := 113) hc_J3_grow ho_J3_grow KJ3 1 (Nat.le_of_ble_eq_true rfl) q192 (Or.inl rfl) dJ3_grow_110 rfl e (fun v2 _ e => ?_)
  refine v_iload (pc' := 115) hc_J3_grow dJ3_grow_113 rfl 0 rfl ?_
  refine v_iadd (pc' := 116) hc_J3_grow dJ3_grow_115 rfl ?_
  refine v_iload_n (pc' := 117) hc_J3_grow dJ3_grow_116 rfl rfl 2 rfl ?_
  refine v_aload_n (pc' := 118) hc_J3_grow dJ3_grow_117 rfl rfl 1 rfl ?_
  refine v_gfI (pc' := 121) hc_J3_grow ho_J3_grow KJ3 1 (Nat.le_of_ble_eq_true rfl) q192 (Or.inl rfl) dJ3_grow_118 rfl e (fun v3 _ e => ?_)
  refine v_isub (pc' := 122) hc_J3_grow dJ3_grow_121 rfl ?_
  refine v_cpQ (pc' := 125) hc_J3_grow ho_J3_grow q808 q637 q636 q96 ⟨Nat.le_of_ble_eq_true rfl, Nat.le_of_ble_eq_true rfl⟩ dJ3_grow_122 rfl e (fun h4 _ e => ?_)
  refine v_aload_n (pc' := 126) hc_J3_grow dJ3_grow_125 rfl rfl 1 rfl ?_
  refine v_gfI (pc' := 129) hc_J3_grow ho_J3_grow KJ3 1 (Nat.le_of_ble_eq_true rfl) q192 (Or.inl rfl) dJ3_grow_126 rfl e (fun v5 _ e => ?_)
  refine v_istore (pc' := 131) (lv' := [(7, .int v5), (6, .int (x3 - x2)), (0, .ref x0), (2, .int x2), (3, .int x3), (5, .ref x5)]) hc_J3_grow dJ3_grow_129 rfl (Nat.le_of_ble_eq_true rfl) rfl ?_
  refine v_aload_n (pc' := 132) hc_J3_grow dJ3_grow_131 rfl rfl 2 rfl ?_
  refine v_dup (pc' := 133) hc_J3_grow dJ3_grow_132 rfl rfl ?_
  refine v_gfI (pc' := 136) hc_J3_grow ho_J3_grow KJ3 1 (Nat.le_of_ble_eq_true rfl) q192 (Or.inl rfl) dJ3_grow_133 rfl e (fun v6 _ e => ?_)
  refine v_iload (pc' := 138) hc_J3_grow dJ3_grow_136 rfl 1 rfl ?_
  refine v_iadd (pc' := 139) hc_J3_grow dJ3_grow_138 rfl ?_
  refine v_dup_x1 (pc' := 140) hc_J3_grow dJ3_grow_139 rfl rfl rfl ?_
  refine v_pf (pc' := 143) hc_J3_grow ho_J3_grow KJ3 1 (Nat.le_of_ble_eq_true rfl) q192 (Or.inl rfl) rfl dJ3_grow_140 rfl rfl rfl e (fun h7 _ e => ?_)
  refine v_istore (pc' := 145) (lv' := [(8, .int (v6 + (x3 - x2))), (7, .int v5), (6, .int (x3 - x2)), (0, .ref x0), (2, .int x2), (3, .int x3), (5, .ref x5)]) hc_J3_grow dJ3_grow_143 rfl (Nat.le_of_ble_eq_true rfl) rfl ?_
  refine v_pick [6, 1, 0] rfl ?_
  exact w_J3_grow_l145 D l hl as h0 NN x5 v5 (v6 + (x3 - x2)) h7 e
def f_J3_grow_j49 (x0 : Nat) (x2 : Int32) (x3 : Int32) (h : AH) : Option (Unit × AH) :=
  bd (gtR h 17 x0 0) fun v1 =>
  bd2 (f_J8_copyOf_2 v1 x3 h) fun r2 h3 =>
  bd (stF h3 17 x0 0 (.ref r2)) fun h5 =>
  bd (gtI h5 17 x0 2) fun v6 =>
  bd (gtI h5 17 x0 1) fun v7 =>
  if v6 < v7 then (
    f_J3_grow_j96 x0 x2 x3 r2 h5
  ) else (
    bd (gtI h5 17 x0 2) fun v8 =>
    bd (gtI h5 17 x0 1) fun v9 =>
    if v8 = v9 then (
      bd (gtI h5 17 x0 1) fun v10 =>
      bd (ldN h5 r2 v10) fun v11 =>
      f_J3_grow_j96 x0 x2 x3 r2 h5
    ) else (
      some ((), h5)
    )
  )
theorem w_J3_grow_j49 (D : va_G) (l : Launch) (hl : l.stackTraces = false) (as : List Value) (h0 : AH) {r : Unit} {hF : AH} (x0 : Nat) (x2 : Int32) (x3 : Int32) (h : AH) (e : f_J3_grow_j49 x0 x2 x3 h = some (r, hF)) : V (G_J3_grow D l as h0 hF (oV r)) h 49 [(0, .ref x0), (2, .int x2), (3, .int x3)] [] := by
  unfold f_J3_grow_j49 at e
  refine v_aload_n (pc' := 50) hc_J3_grow dJ3_grow_49 rfl rfl 0 rfl ?_
  refine v_aload_n (pc' := 51) hc_J3_grow dJ3_grow_50 rfl rfl 0 rfl ?_
  refine v_gfR (pc' := 54) hc_J3_grow ho_J3_grow KJ3 0 (Nat.le_of_ble_eq_true rfl) q191 (Or.inl rfl) dJ3_grow_51 rfl e (fun v1 _ e => ?_)
  refine v_iload_n (pc' := 55) hc_J3_grow dJ3_grow_54 rfl rfl 2 rfl ?_
  obtain ⟨r2, h3, e4, e⟩ := bd2_of e
  refine k_S (pc' := 58) (n := 2) hc_J3_grow ho_J3_grow (w_J8_copyOf_2 D l hl v1 x3 h e4) (wA_l q1538) q816 q87 q817 hy_13 ⟨Nat.le_of_ble_eq_true rfl, Nat.le_of_ble_eq_true rfl⟩ rfl rfl (Nat.le_of_ble_eq_true rfl) dJ3_grow_55 rfl (kS ?_) kN
  refine v_dup_x1 (pc' := 59) hc_J3_grow dJ3_grow_58 rfl rfl rfl ?_
  refine v_pf (pc' := 62) hc_J3_grow ho_J3_grow KJ3 0 (Nat.le_of_ble_eq_true rfl) q191 (Or.inl rfl) rfl dJ3_grow_59 rfl rfl rfl e (fun h5 _ e => ?_)
  refine v_astore (pc' := 64) (lv' := [(5, .ref r2), (0, .ref x0), (2, .int x2), (3, .int x3)]) hc_J3_grow dJ3_grow_62 rfl (Nat.le_of_ble_eq_true rfl) rfl ?_
  refine v_aload_n (pc' := 65) hc_J3_grow dJ3_grow_64 rfl rfl 1 rfl ?_
  refine v_gfI (pc' := 68) hc_J3_grow ho_J3_grow KJ3 2 (Nat.le_of_ble_eq_true rfl) q193 (Or.inl rfl) dJ3_grow_65 rfl e (fun v6 _ e => ?_)
  refine v_aload_n (pc' := 69) hc_J3_grow dJ3_grow_68 rfl rfl 1 rfl ?_
  refine v_gfI (pc' := 72) hc_J3_grow ho_J3_grow KJ3 1 (Nat.le_of_ble_eq_true rfl) q192 (Or.inl rfl) dJ3_grow_69 rfl e (fun v7 _ e => ?_)
  refine v_icmp_lt (pt := 96) (pf := 75) hc_J3_grow dJ3_grow_72 rfl rfl e (fun _ e => ?_) (fun _ e => ?_)
  · refine v_pick [1, 2, 3, 0] rfl ?_
    exact w_J3_grow_j96 D l hl as h0 x0 x2 x3 r2 h5 e
  · refine v_aload_n (pc' := 76) hc_J3_grow dJ3_grow_75 rfl rfl 1 rfl ?_
    refine v_gfI (pc' := 79) hc_J3_grow ho_J3_grow KJ3 2 (Nat.le_of_ble_eq_true rfl) q193 (Or.inl rfl) dJ3_grow_76 rfl e (fun v8 _ e => ?_)
    refine v_aload_n (pc' := 80) hc_J3_grow dJ3_grow_79 rfl rfl 1 rfl ?_
    refine v_gfI (pc' := 83) hc_J3_grow ho_J3_grow KJ3 1 (Nat.le_of_ble_eq_true rfl) q192 (Or.inl rfl) dJ3_grow_80 rfl e (fun v9 _ e => ?_)
    refine v_icmp_ne (pt := 164) (pf := 86) hc_J3_grow dJ3_grow_83 rfl rfl e (fun _ e => ?_) (fun _ e => ?_)
    · refine v_aload (pc' := 88) hc_J3_grow dJ3_grow_86 rfl 0 rfl ?_
      refine v_aload_n (pc' := 89) hc_J3_grow dJ3_grow_88 rfl rfl 1 rfl ?_
      refine v_gfI (pc' := 92) hc_J3_grow ho_J3_grow KJ3 1 (Nat.le_of_ble_eq_true rfl) q192 (Or.inl rfl) dJ3_grow_89 rfl e (fun v10 _ e => ?_)
      refine v_aald (pc' := 93) hc_J3_grow dJ3_grow_92 rfl e (fun v11 _ e => ?_)
      refine v_ifnull (pc' := 96) hc_J3_grow dJ3_grow_93 rfl ?_
      refine v_pick [1, 2, 3, 0] rfl ?_
      exact w_J3_grow_j96 D l hl as h0 x0 x2 x3 r2 h5 e
    · obtain ⟨rfl, rfl⟩ := ret_of e
      exact v_ret hc_J3_grow rfl dJ3_grow_164 rfl rfl
def f_J3_grow_j21 (x0 : Nat) (x1 : Int32) (x2 : Int32) (s0 : Int32) (h : AH) : Option (Unit × AH) :=
  if s0 < x1 then (
    gd (isC h 17 x0) <|
    bd2 (f_J3_newCapacity x0 x1 s0 h) fun r2 h3 =>
    f_J3_grow_j49 x0 x2 r2 h3
  ) else (
    if ((x2 + s0) - (2147483639 : Int32)) ≤ 0 then (
      f_J3_grow_j49 x0 x2 (x2 + s0) h
    ) else (
      gd (isC h 17 x0) <|
      bd2 (f_J3_newCapacity x0 x1 s0 h) fun r6 h7 =>
      f_J3_grow_j49 x0 x2 r6 h7
    )
  )
theorem w_J3_grow_j21 (D : va_G) (l : Launch) (hl : l.stackTraces = false) (as : List Value) (h0 : AH) {r : Unit} {hF : AH} (x0 : Nat) (x1 : Int32) (x2 : Int32) (s0 : Int32) (h : AH) (e : f_J3_grow_j21 x0 x1 x2 s0 h = some (r, hF)) : V (G_J3_grow D l as h0 hF (oV r)) h 21 [(0, .ref x0), (1, .int x1), (2, .int x2)] [.int s0] := by
  unfold f_J3_grow_j21 at e
  refine v_istore (pc' := 23) (lv' := [(4, .int s0), (0, .ref x0), (1, .int x1), (2, .int x2)]) hc_J3_grow dJ3_grow_21 rfl (Nat.le_of_ble_eq_true rfl) rfl ?_
  refine v_iload (pc' := 25) hc_J3_grow dJ3_grow_23 rfl 0 rfl ?_
  refine v_iload_n (pc' := 26) hc_J3_grow dJ3_grow_25 rfl rfl 2 rfl ?_
  refine v_icmp_lt (pt := 41) (pf := 29) hc_J3_grow dJ3_grow_26 rfl rfl e (fun _ e => ?_) (fun _ e => ?_)
  · refine v_aload_n (pc' := 42) hc_J3_grow dJ3_grow_41 rfl rfl 1 rfl ?_
    refine v_iload_n (pc' := 43) hc_J3_grow dJ3_grow_42 rfl rfl 2 rfl ?_
    refine v_iload (pc' := 45) hc_J3_grow dJ3_grow_43 rfl 0 rfl ?_
    obtain ⟨c1, e⟩ := gd_of e
    obtain ⟨r2, h3, e4, e⟩ := bd2_of e
    refine k_V (pc' := 48) (ci := 17) (n := 2) hc_J3_grow ho_J3_grow rfl c1 (w_J3_newCapacity D l hl x0 x1 s0 h e4) (wA_l q1517) q1519 (wA_l qs16) q80 q1520 hy_102 ⟨Nat.le_of_ble_eq_true rfl, Nat.le_of_ble_eq_true rfl⟩ rfl rfl (Nat.le_of_ble_eq_true rfl) dJ3_grow_45 rfl (kS ?_) kN
    refine v_istore_n (pc' := 49) (lv' := [(3, .int r2), (4, .int s0), (0, .ref x0), (1, .int x1), (2, .int x2)]) hc_J3_grow dJ3_grow_48 rfl rfl (Nat.le_of_ble_eq_true rfl) rfl ?_
    refine v_pick [2, 4, 0] rfl ?_
    exact w_J3_grow_j49 D l hl as h0 x0 x2 r2 h3 e
  · refine v_iload_n (pc' := 30) hc_J3_grow dJ3_grow_29 rfl rfl 3 rfl ?_
    refine v_iload (pc' := 32) hc_J3_grow dJ3_grow_30 rfl 0 rfl ?_
    refine v_iadd (pc' := 33) hc_J3_grow dJ3_grow_32 rfl ?_
    refine v_dup (pc' := 34) hc_J3_grow dJ3_grow_33 rfl rfl ?_
    refine v_istore_n (pc' := 35) (lv' := [(3, .int (x2 + s0)), (4, .int s0), (0, .ref x0), (1, .int x1), (2, .int x2)]) hc_J3_grow dJ3_grow_34 rfl rfl (Nat.le_of_ble_eq_true rfl) rfl ?_
    refine v_ldcI (pc' := 37) (x := 2147483639) hc_J3_grow ho_J3_grow q1516 dJ3_grow_35 rfl ?_
    refine v_isub (pc' := 38) hc_J3_grow dJ3_grow_37 rfl ?_
    refine v_if_le (pt := 49) (pf := 41) hc_J3_grow dJ3_grow_38 rfl rfl e (fun _ e => ?_) (fun _ e => ?_)
    · refine v_pick [2, 4, 0] rfl ?_
      exact w_J3_grow_j49 D l hl as h0 x0 x2 (x2 + s0) h e
    · refine v_aload_n (pc' := 42) hc_J3_grow dJ3_grow_41 rfl rfl 2 rfl ?_
      refine v_iload_n (pc' := 43) hc_J3_grow dJ3_grow_42 rfl rfl 3 rfl ?_
      refine v_iload (pc' := 45) hc_J3_grow dJ3_grow_43 rfl 1 rfl ?_
      obtain ⟨c5, e⟩ := gd_of e
      obtain ⟨r6, h7, e8, e⟩ := bd2_of e
      refine k_V (pc' := 48) (ci := 17) (n := 2) hc_J3_grow ho_J3_grow rfl c5 (w_J3_newCapacity D l hl x0 x1 s0 h e8) (wA_l q1517) q1519 (wA_l qs16) q80 q1520 hy_102 ⟨Nat.le_of_ble_eq_true rfl, Nat.le_of_ble_eq_true rfl⟩ rfl rfl (Nat.le_of_ble_eq_true rfl) dJ3_grow_45 rfl (kS ?_) kN
      refine v_istore_n (pc' := 49) (lv' := [(3, .int r6), (4, .int s0), (0, .ref x0), (1, .int x1), (2, .int x2)]) hc_J3_grow dJ3_grow_48 rfl rfl (Nat.le_of_ble_eq_true rfl) rfl ?_
      refine v_pick [2, 4, 0] rfl ?_
      exact w_J3_grow_j49 D l hl as h0 x0 x2 r6 h7 e
def f_J3_grow (x0 : Nat) (x1 : Int32) (h : AH) : Option (Unit × AH) :=
  bd (gtR h 17 x0 0) fun v1 =>
  bd (aLn h v1) fun v2 =>
  if (64 : Int32) ≤ v2 then (
    f_J3_grow_j21 x0 x1 v2 (v2 >>> ((1 : Int32) &&& 31)) h
  ) else (
    f_J3_grow_j21 x0 x1 v2 (v2 + (2 : Int32)) h
  )
theorem v_J3_grow (D : va_G) (l : Launch) (hl : l.stackTraces = false) (as : List Value) (h0 : AH) {r : Unit} {hF : AH} (x0 : Nat) (x1 : Int32) (h : AH) (e : f_J3_grow x0 x1 h = some (r, hF)) : V (G_J3_grow D l as h0 hF (oV r)) h 0 [(0, .ref x0), (1, .int x1)] [] := by
  unfold f_J3_grow at e
  refine v_aload_n (pc' := 1) hc_J3_grow dJ3_grow_0 rfl rfl 0 rfl ?_
  refine v_gfR (pc' := 4) hc_J3_grow ho_J3_grow KJ3 0 (Nat.le_of_ble_eq_true rfl) q191 (Or.inl rfl) dJ3_grow_1 rfl e (fun v1 _ e => ?_)
  refine v_alen (pc' := 5) hc_J3_grow dJ3_grow_4 rfl e (fun v2 _ e => ?_)
  refine v_istore_n (pc' := 6) (lv' := [(2, .int v2), (0, .ref x0), (1, .int x1)]) hc_J3_grow dJ3_grow_5 rfl rfl (Nat.le_of_ble_eq_true rfl) rfl ?_
  refine v_iload_n (pc' := 7) hc_J3_grow dJ3_grow_6 rfl rfl 0 rfl ?_
  refine v_bipush (pc' := 9) (v := 64) hc_J3_grow dJ3_grow_7 rfl rfl ?_
  refine v_icmp_ge (pt := 18) (pf := 12) hc_J3_grow dJ3_grow_9 rfl rfl e (fun _ e => ?_) (fun _ e => ?_)
  · refine v_iload_n (pc' := 19) hc_J3_grow dJ3_grow_18 rfl rfl 0 rfl ?_
    refine v_iconst (pc' := 20) (v := 1) hc_J3_grow dJ3_grow_19 rfl rfl ?_
    refine v_ishr (pc' := 21) hc_J3_grow dJ3_grow_20 rfl ?_
    refine v_pick [1, 2, 0] rfl ?_
    exact w_J3_grow_j21 D l hl as h0 x0 x1 v2 (v2 >>> ((1 : Int32) &&& 31)) h e
  · refine v_iload_n (pc' := 13) hc_J3_grow dJ3_grow_12 rfl rfl 0 rfl ?_
    refine v_iconst (pc' := 14) (v := 2) hc_J3_grow dJ3_grow_13 rfl rfl ?_
    refine v_iadd (pc' := 15) hc_J3_grow dJ3_grow_14 rfl ?_
    refine v_goto (pt := 21) hc_J3_grow dJ3_grow_15 rfl ?_
    refine v_pick [1, 2, 0] rfl ?_
    exact w_J3_grow_j21 D l hl as h0 x0 x1 v2 (v2 + (2 : Int32)) h e
theorem w_J3_grow (D : va_G) (l : Launch) (hl : l.stackTraces = false) (x0 : Nat) (x1 : Int32) (h : AH) {r : Unit} {hF : AH} (e : f_J3_grow x0 x1 h = some (r, hF)) : MetV D l yJ3_grow (Cond.code yJ3_grow cJ3_grow 9 (Option.none : Option FieldType)) 4 113 [.ref x0, .int x1] h hF (oV r) :=
  met_ofF (by decide +kernel) hl (Nat.le_of_ble_eq_true rfl) rfl (v_J3_grow D l hl [.ref x0, .int x1] h x0 x1 h e)
/-! java/util/ArrayDeque.addFirst(Ljava/lang/Object;)V  -/
abbrev G_J3_addFirst (D : va_G) (l : Launch) (as : List Value) (h0 hF : AH) (o : Out) : CT := (D, l, (yJ3_addFirst.cls, yJ3_addFirst, cJ3_addFirst, 3, (Option.none : Option FieldType), 5, 141, []), as, h0, hF, o)
theorem hc_J3_addFirst {D : va_G} {l : Launch} {as : List Value} {h0 hF : AH} {o : Out} : gC (G_J3_addFirst D l as h0 hF o) = cJ3_addFirst := rfl
theorem ho_J3_addFirst {D : va_G} {l : Launch} {as : List Value} {h0 hF : AH} {o : Out} : gO (G_J3_addFirst D l as h0 hF o) = "java/util/ArrayDeque" := rfl
theorem hp_J3_addFirst {D : va_G} {l : Launch} {as : List Value} {h0 hF : AH} {o : Out} (pc : Nat) : ∀ z ∈ tableOf (gHd (G_J3_addFirst D l as h0 hF o)), covers z pc = false := hpN
def f_J3_addFirst (x0 : Nat) (x1 : Nat) (h : AH) : Option (Unit × AH) :=
  bd (gtR h 17 x0 0) fun v1 =>
  bd (gtI h 17 x0 1) fun v2 =>
  bd (aLn h v1) fun v3 =>
  bd2 (f_J3_dec v2 v3 h) fun r4 h5 =>
  bd (stF h5 17 x0 1 (.int r4)) fun h7 =>
  bd (stQ h7 v1 r4 (some x1)) fun h8 =>
  bd (gtI h8 17 x0 1) fun v9 =>
  bd (gtI h8 17 x0 2) fun v10 =>
  if v9 = v10 then (
    gd (isC h8 17 x0) <|
    bd2 (f_J3_grow x0 (1 : Int32) h8) fun r12 h13 =>
    some ((), h13)
  ) else (
    some ((), h8)
  )
theorem v_J3_addFirst (D : va_G) (l : Launch) (hl : l.stackTraces = false) (as : List Value) (h0 : AH) {r : Unit} {hF : AH} (x0 : Nat) (x1 : Nat) (h : AH) (e : f_J3_addFirst x0 x1 h = some (r, hF)) : V (G_J3_addFirst D l as h0 hF (oV r)) h 0 [(0, .ref x0), (1, .ref x1)] [] := by
  unfold f_J3_addFirst at e
  refine v_aload_n (pc' := 1) hc_J3_addFirst dJ3_addFirst_0 rfl rfl 1 rfl ?_
  refine v_ifnonnull (pt := 12) hc_J3_addFirst dJ3_addFirst_1 rfl ?_
  refine v_aload_n (pc' := 13) hc_J3_addFirst dJ3_addFirst_12 rfl rfl 0 rfl ?_
  refine v_gfR (pc' := 16) hc_J3_addFirst ho_J3_addFirst KJ3 0 (Nat.le_of_ble_eq_true rfl) q191 (Or.inl rfl) dJ3_addFirst_13 rfl e (fun v1 _ e => ?_)
  refine v_astore_n (pc' := 17) (lv' := [(2, .ref v1), (0, .ref x0), (1, .ref x1)]) hc_J3_addFirst dJ3_addFirst_16 rfl rfl (Nat.le_of_ble_eq_true rfl) rfl ?_
  refine v_aload_n (pc' := 18) hc_J3_addFirst dJ3_addFirst_17 rfl rfl 0 rfl ?_
  refine v_aload_n (pc' := 19) hc_J3_addFirst dJ3_addFirst_18 rfl rfl 1 rfl ?_
  refine v_aload_n (pc' := 20) hc_J3_addFirst dJ3_addFirst_19 rfl rfl 1 rfl ?_
  refine v_gfI (pc' := 23) hc_J3_addFirst ho_J3_addFirst KJ3 1 (Nat.le_of_ble_eq_true rfl) q192 (Or.inl rfl) dJ3_addFirst_20 rfl e (fun v2 _ e => ?_)
  refine v_aload_n (pc' := 24) hc_J3_addFirst dJ3_addFirst_23 rfl rfl 0 rfl ?_
  refine v_alen (pc' := 25) hc_J3_addFirst dJ3_addFirst_24 rfl e (fun v3 _ e => ?_)
  obtain ⟨r4, h5, e6, e⟩ := bd2_of e
  refine k_S (pc' := 28) (n := 2) hc_J3_addFirst ho_J3_addFirst (w_J3_dec D l hl v2 v3 h e6) (wA_l q1496) q1497 q80 q1498 hy_98 ⟨Nat.le_of_ble_eq_true rfl, Nat.le_of_ble_eq_true rfl⟩ rfl rfl (Nat.le_of_ble_eq_true rfl) dJ3_addFirst_25 rfl (kS ?_) kN
  refine v_dup_x1 (pc' := 29) hc_J3_addFirst dJ3_addFirst_28 rfl rfl rfl ?_
  refine v_pf (pc' := 32) hc_J3_addFirst ho_J3_addFirst KJ3 1 (Nat.le_of_ble_eq_true rfl) q192 (Or.inl rfl) rfl dJ3_addFirst_29 rfl rfl rfl e (fun h7 _ e => ?_)
  refine v_aload_n (pc' := 33) hc_J3_addFirst dJ3_addFirst_32 rfl rfl 2 rfl ?_
  refine v_aast (pc' := 34) hc_J3_addFirst dJ3_addFirst_33 rfl e (fun h8 _ e => ?_)
  refine v_aload_n (pc' := 35) hc_J3_addFirst dJ3_addFirst_34 rfl rfl 1 rfl ?_
  refine v_gfI (pc' := 38) hc_J3_addFirst ho_J3_addFirst KJ3 1 (Nat.le_of_ble_eq_true rfl) q192 (Or.inl rfl) dJ3_addFirst_35 rfl e (fun v9 _ e => ?_)
  refine v_aload_n (pc' := 39) hc_J3_addFirst dJ3_addFirst_38 rfl rfl 1 rfl ?_
  refine v_gfI (pc' := 42) hc_J3_addFirst ho_J3_addFirst KJ3 2 (Nat.le_of_ble_eq_true rfl) q193 (Or.inl rfl) dJ3_addFirst_39 rfl e (fun v10 _ e => ?_)
  refine v_icmp_ne (pt := 50) (pf := 45) hc_J3_addFirst dJ3_addFirst_42 rfl rfl e (fun _ e => ?_) (fun _ e => ?_)
  · refine v_aload_n (pc' := 46) hc_J3_addFirst dJ3_addFirst_45 rfl rfl 1 rfl ?_
    refine v_iconst (pc' := 47) (v := 1) hc_J3_addFirst dJ3_addFirst_46 rfl rfl ?_
    obtain ⟨c11, e⟩ := gd_of e
    obtain ⟨r12, h13, e14, e⟩ := bd2_of e
    refine k_V (pc' := 50) (ci := 17) (n := 1) hc_J3_addFirst ho_J3_addFirst rfl c11 (w_J3_grow D l hl x0 (1 : Int32) h8 e14) (wA_l q1512) q1514 (wA_l qs15) q80 q1515 hy_103 ⟨Nat.le_of_ble_eq_true rfl, Nat.le_of_ble_eq_true rfl⟩ rfl rfl (Nat.le_of_ble_eq_true rfl) dJ3_addFirst_47 rfl (kU ?_) kN
    obtain ⟨rfl, rfl⟩ := ret_of e
    exact v_ret hc_J3_addFirst rfl dJ3_addFirst_50 rfl rfl
  · obtain ⟨rfl, rfl⟩ := ret_of e
    exact v_ret hc_J3_addFirst rfl dJ3_addFirst_50 rfl rfl
theorem w_J3_addFirst (D : va_G) (l : Launch) (hl : l.stackTraces = false) (x0 : Nat) (x1 : Nat) (h : AH) {r : Unit} {hF : AH} (e : f_J3_addFirst x0 x1 h = some (r, hF)) : MetV D l yJ3_addFirst (Cond.code yJ3_addFirst cJ3_addFirst 3 (Option.none : Option FieldType)) 5 141 [.ref x0, .ref x1] h hF (oV r) :=
  met_ofF (by decide +kernel) hl (Nat.le_of_ble_eq_true rfl) rfl (v_J3_addFirst D l hl [.ref x0, .ref x1] h x0 x1 h e)
/-! java/util/ArrayDeque.push(Ljava/lang/Object;)V  -/
abbrev G_J3_push (D : va_G) (l : Launch) (as : List Value) (h0 hF : AH) (o : Out) : CT := (D, l, (yJ3_push.cls, yJ3_push, cJ3_push, 2, (Option.none : Option FieldType), 6, 163, []), as, h0, hF, o)
theorem hc_J3_push {D : va_G} {l : Launch} {as : List Value} {h0 hF : AH} {o : Out} : gC (G_J3_push D l as h0 hF o) = cJ3_push := rfl
theorem ho_J3_push {D : va_G} {l : Launch} {as : List Value} {h0 hF : AH} {o : Out} : gO (G_J3_push D l as h0 hF o) = "java/util/ArrayDeque" := rfl
theorem hp_J3_push {D : va_G} {l : Launch} {as : List Value} {h0 hF : AH} {o : Out} (pc : Nat) : ∀ z ∈ tableOf (gHd (G_J3_push D l as h0 hF o)), covers z pc = false := hpN
def f_J3_push (x0 : Nat) (x1 : Nat) (h : AH) : Option (Unit × AH) :=
  gd (isC h 17 x0) <|
  bd2 (f_J3_addFirst x0 x1 h) fun r2 h3 =>
  some ((), h3)
theorem v_J3_push (D : va_G) (l : Launch) (hl : l.stackTraces = false) (as : List Value) (h0 : AH) {r : Unit} {hF : AH} (x0 : Nat) (x1 : Nat) (h : AH) (e : f_J3_push x0 x1 h = some (r, hF)) : V (G_J3_push D l as h0 hF (oV r)) h 0 [(0, .ref x0), (1, .ref x1)] [] := by
  unfold f_J3_push at e
  refine v_aload_n (pc' := 1) hc_J3_push dJ3_push_0 rfl rfl 0 rfl ?_
  refine v_aload_n (pc' := 2) hc_J3_push dJ3_push_1 rfl rfl 1 rfl ?_
  obtain ⟨c1, e⟩ := gd_of e
  obtain ⟨r2, h3, e4, e⟩ := bd2_of e
  refine k_V (pc' := 5) (ci := 17) (n := 1) hc_J3_push ho_J3_push rfl c1 (w_J3_addFirst D l hl x0 x1 h e4) (wA_l q1508) q1509 (wA_l q1510) q80 q1511 hy_104 ⟨Nat.le_of_ble_eq_true rfl, Nat.le_of_ble_eq_true rfl⟩ rfl rfl (Nat.le_of_ble_eq_true rfl) dJ3_push_2 rfl (kU ?_) kN
  obtain ⟨rfl, rfl⟩ := ret_of e
  exact v_ret hc_J3_push rfl dJ3_push_5 rfl rfl
theorem w_J3_push (D : va_G) (l : Launch) (hl : l.stackTraces = false) (x0 : Nat) (x1 : Nat) (h : AH) {r : Unit} {hF : AH} (e : f_J3_push x0 x1 h = some (r, hF)) : MetV D l yJ3_push (Cond.code yJ3_push cJ3_push 2 (Option.none : Option FieldType)) 6 163 [.ref x0, .ref x1] h hF (oV r) :=
  met_ofF (by decide +kernel) hl (Nat.le_of_ble_eq_true rfl) rfl (v_J3_push D l hl [.ref x0, .ref x1] h x0 x1 h e)
/-! java/util/ArrayList$Itr.<init>(Ljava/util/ArrayList;)V  -/
abbrev G_J19_init (D : va_G) (l : Launch) (as : List Value) (h0 hF : AH) (o : Out) : CT := (D, l, (yJ19_init.cls, yJ19_init, cJ19_init, 2, (Option.none : Option FieldType), 1, 48, []), as, h0, hF, o)
theorem hc_J19_init {D : va_G} {l : Launch} {as : List Value} {h0 hF : AH} {o : Out} : gC (G_J19_init D l as h0 hF o) = cJ19_init := rfl
theorem ho_J19_init {D : va_G} {l : Launch} {as : List Value} {h0 hF : AH} {o : Out} : gO (G_J19_init D l as h0 hF o) = "java/util/ArrayList$Itr" := rfl
theorem hp_J19_init {D : va_G} {l : Launch} {as : List Value} {h0 hF : AH} {o : Out} (pc : Nat) : ∀ z ∈ tableOf (gHd (G_J19_init D l as h0 hF o)), covers z pc = false := hpN
def f_J19_init (x0 : Nat) (x1 : Nat) (h : AH) : Option (Unit × AH) :=
  bd (stF h 20 x0 3 (.ref x1)) fun h1 =>
  bd (stF h1 20 x0 1 (.int (-1 : Int32))) fun h2 =>
  bd (gtR h2 20 x0 3) fun v3 =>
  bd (gtI h2 16 v3 0) fun v4 =>
  bd (stF h2 20 x0 2 (.int v4)) fun h5 =>
  some ((), h5)
theorem v_J19_init (D : va_G) (l : Launch) (hl : l.stackTraces = false) (as : List Value) (h0 : AH) {r : Unit} {hF : AH} (x0 : Nat) (x1 : Nat) (h : AH) (e : f_J19_init x0 x1 h = some (r, hF)) : V (G_J19_init D l as h0 hF (oV r)) h 0 [(0, .ref x0), (1, .ref x1)] [] := by
  unfold f_J19_init at e
  refine v_aload_n (pc' := 1) hc_J19_init dJ19_init_0 rfl rfl 0 rfl ?_
  refine v_aload_n (pc' := 2) hc_J19_init dJ19_init_1 rfl rfl 1 rfl ?_
  refine v_pfF (pc' := 5) hc_J19_init ho_J19_init rfl KJ19 3 (Nat.le_of_ble_eq_true rfl) q375 rfl rfl rfl dJ19_init_2 rfl rfl rfl e (fun h1 _ e => ?_)
  refine v_aload_n (pc' := 6) hc_J19_init dJ19_init_5 rfl rfl 0 rfl ?_
  refine v_oinit (pc' := 9) hc_J19_init ho_J19_init q371 q127 q128 ⟨Nat.le_of_ble_eq_true rfl, Nat.le_of_ble_eq_true rfl⟩ dJ19_init_6 rfl ?_
  refine v_aload_n (pc' := 10) hc_J19_init dJ19_init_9 rfl rfl 0 rfl ?_
  refine v_iconst (pc' := 11) (v := (-1)) hc_J19_init dJ19_init_10 rfl rfl ?_
  refine v_pf (pc' := 14) hc_J19_init ho_J19_init KJ19 1 (Nat.le_of_ble_eq_true rfl) q373 (Or.inl rfl) rfl dJ19_init_11 rfl rfl rfl e (fun h2 _ e => ?_)
  refine v_aload_n (pc' := 15) hc_J19_init dJ19_init_14 rfl rfl 0 rfl ?_
  refine v_aload_n (pc' := 16) hc_J19_init dJ19_init_15 rfl rfl 0 rfl ?_
  refine v_gfR (pc' := 19) hc_J19_init ho_J19_init KJ19 3 (Nat.le_of_ble_eq_true rfl) q375 (Or.inl rfl) dJ19_init_16 rfl e (fun v3 _ e => ?_)
  refine v_gfI (pc' := 22) hc_J19_init ho_J19_init KJ2 0 (Nat.le_of_ble_eq_true rfl) q154 (Or.inr q155) dJ19_init_19 rfl e (fun v4 _ e => ?_)
  refine v_pf (pc' := 25) hc_J19_init ho_J19_init KJ19 2 (Nat.le_of_ble_eq_true rfl) q374 (Or.inl rfl) rfl dJ19_init_22 rfl rfl rfl e (fun h5 _ e => ?_)
  obtain ⟨rfl, rfl⟩ := ret_of e
  exact v_ret hc_J19_init rfl dJ19_init_25 rfl rfl
theorem w_J19_init (D : va_G) (l : Launch) (hl : l.stackTraces = false) (x0 : Nat) (x1 : Nat) (h : AH) {r : Unit} {hF : AH} (e : f_J19_init x0 x1 h = some (r, hF)) : MetV D l yJ19_init (Cond.code yJ19_init cJ19_init 2 (Option.none : Option FieldType)) 1 48 [.ref x0, .ref x1] h hF (oV r) :=
  met_ofF (by decide +kernel) hl (Nat.le_of_ble_eq_true rfl) rfl (v_J19_init D l hl [.ref x0, .ref x1] h x0 x1 h e)
/-! java/util/ArrayList.iterator()Ljava/util/Iterator;  -/
abbrev G_J2_iterator (D : va_G) (l : Launch) (as : List Value) (h0 hF : AH) (o : Out) : CT := (D, l, (yJ2_iterator.cls, yJ2_iterator, cJ2_iterator, 1, (Option.some (.object "java/util/Iterator")), 2, 69, []), as, h0, hF, o)
theorem hc_J2_iterator {D : va_G} {l : Launch} {as : List Value} {h0 hF : AH} {o : Out} : gC (G_J2_iterator D l as h0 hF o) = cJ2_iterator := rfl
theorem ho_J2_iterator {D : va_G} {l : Launch} {as : List Value} {h0 hF : AH} {o : Out} : gO (G_J2_iterator D l as h0 hF o) = "java/util/ArrayList" := rfl
theorem hp_J2_iterator {D : va_G} {l : Launch} {as : List Value} {h0 hF : AH} {o : Out} (pc : Nat) : ∀ z ∈ tableOf (gHd (G_J2_iterator D l as h0 hF o)), covers z pc = false := hpN
def f_J2_iterator (x0 : Nat) (h : AH) : Option (Nat × AH) :=
  bd2 (nwX h 20 4 fsJ19) fun a2 h1 =>
  bd2 (f_J19_init a2 x0 h1) fun r3 h4 =>
  some (a2, h4)
theorem v_J2_iterator (D : va_G) (l : Launch) (hl : l.stackTraces = false) (as : List Value) (h0 : AH) {r : Nat} {hF : AH} (x0 : Nat) (h : AH) (e : f_J2_iterator x0 h = some (r, hF)) : V (G_J2_iterator D l as h0 hF (oR r)) h 0 [(0, .ref x0)] [] := by
  unfold f_J2_iterator at e
  refine v_newX (pc' := 3) hc_J2_iterator ho_J2_iterator KJ19 q366 q367 q101 rfl dfJ19 dJ2_iterator_0 rfl e (fun a2 h1 _ e => ?_)
  refine v_dup (pc' := 4) hc_J2_iterator dJ2_iterator_3 rfl rfl ?_
  refine v_aload_n (pc' := 5) hc_J2_iterator dJ2_iterator_4 rfl rfl 0 rfl ?_
  obtain ⟨r3, h4, e5, e⟩ := bd2_of e
  refine k_I (pc' := 8) (n := 1) hc_J2_iterator ho_J2_iterator (w_J19_init D l hl a2 x0 h1 e5) (wA_l q368) q369 q101 q370 rfl hy_107 ⟨Nat.le_of_ble_eq_true rfl, Nat.le_of_ble_eq_true rfl⟩ rfl rfl (Nat.le_of_ble_eq_true rfl) dJ2_iterator_5 rfl (kU ?_) kN
  obtain ⟨rfl, rfl⟩ := ret_of e
  exact v_aret hc_J2_iterator rfl (Or.inl ⟨_, rfl⟩) (Or.inr ⟨_, rfl⟩) dJ2_iterator_8 rfl rfl
theorem w_J2_iterator (D : va_G) (l : Launch) (hl : l.stackTraces = false) (x0 : Nat) (h : AH) {r : Nat} {hF : AH} (e : f_J2_iterator x0 h = some (r, hF)) : MetV D l yJ2_iterator (Cond.code yJ2_iterator cJ2_iterator 1 (Option.some (.object "java/util/Iterator"))) 2 69 [.ref x0] h hF (oR r) :=
  met_ofF (by decide +kernel) hl (Nat.le_of_ble_eq_true rfl) rfl (v_J2_iterator D l hl [.ref x0] h x0 h e)
/-! java/util/ArrayList$Itr.hasNext()Z  -/
abbrev G_J19_hasNext (D : va_G) (l : Launch) (as : List Value) (h0 hF : AH) (o : Out) : CT := (D, l, (yJ19_hasNext.cls, yJ19_hasNext, cJ19_hasNext, 1, (Option.some .boolean), 1, 48, []), as, h0, hF, o)
theorem hc_J19_hasNext {D : va_G} {l : Launch} {as : List Value} {h0 hF : AH} {o : Out} : gC (G_J19_hasNext D l as h0 hF o) = cJ19_hasNext := rfl
theorem ho_J19_hasNext {D : va_G} {l : Launch} {as : List Value} {h0 hF : AH} {o : Out} : gO (G_J19_hasNext D l as h0 hF o) = "java/util/ArrayList$Itr" := rfl
theorem hp_J19_hasNext {D : va_G} {l : Launch} {as : List Value} {h0 hF : AH} {o : Out} (pc : Nat) : ∀ z ∈ tableOf (gHd (G_J19_hasNext D l as h0 hF o)), covers z pc = false := hpN
def f_J19_hasNext (x0 : Nat) (h : AH) : Option (Int32 × AH) :=
  bd (gtI h 20 x0 0) fun v1 =>
  bd (gtR h 20 x0 3) fun v2 =>
  bd (gtI h 16 v2 2) fun v3 =>
  if v1 = v3 then (
    some ((0 : Int32), h)
  ) else (
    some ((1 : Int32), h)
  )
theorem v_J19_hasNext (D : va_G) (l : Launch) (hl : l.stackTraces = false) (as : List Value) (h0 : AH) {r : Int32} {hF : AH} (x0 : Nat) (h : AH) (e : f_J19_hasNext x0 h = some (r, hF)) : V (G_J19_hasNext D l as h0 hF (oI r)) h 0 [(0, .ref x0)] [] := by
  unfold f_J19_hasNext at e
  refine v_aload_n (pc' := 1) hc_J19_hasNext dJ19_hasNext_0 rfl rfl 0 rfl ?_
  refine v_gfI (pc' := 4) hc_J19_hasNext ho_J19_hasNext KJ19 0 (Nat.le_of_ble_eq_true rfl) q372 (Or.inl rfl) dJ19_hasNext_1 rfl e (fun v1 _ e => ?_)
  refine v_aload_n (pc' := 5) hc_J19_hasNext dJ19_hasNext_4 rfl rfl 0 rfl ?_
  refine v_gfR (pc' := 8) hc_J19_hasNext ho_J19_hasNext KJ19 3 (Nat.le_of_ble_eq_true rfl) q375 (Or.inl rfl) dJ19_hasNext_5 rfl e (fun v2 _ e => ?_)
  refine v_gnI (pc' := 11) hc_J19_hasNext ho_J19_hasNext KJ2 2 (Nat.le_of_ble_eq_true rfl) q151 rfl dJ19_hasNext_8 rfl e (fun v3 _ e => ?_)
  refine v_icmp_eq (pt := 18) (pf := 14) hc_J19_hasNext dJ19_hasNext_11 rfl rfl e (fun _ e => ?_) (fun _ e => ?_)
  · refine v_iconst (pc' := 19) (v := 0) hc_J19_hasNext dJ19_hasNext_18 rfl rfl ?_
    obtain ⟨rfl, rfl⟩ := ret_of e
    exact v_zret hc_J19_hasNext rfl (ft := .boolean) rfl dJ19_hasNext_19 rfl rfl
  · refine v_iconst (pc' := 15) (v := 1) hc_J19_hasNext dJ19_hasNext_14 rfl rfl ?_
    refine v_goto (pt := 19) hc_J19_hasNext dJ19_hasNext_15 rfl ?_
    obtain ⟨rfl, rfl⟩ := ret_of e
    exact v_zret hc_J19_hasNext rfl (ft := .boolean) rfl dJ19_hasNext_19 rfl rfl
theorem w_J19_hasNext (D : va_G) (l : Launch) (hl : l.stackTraces = false) (x0 : Nat) (h : AH) {r : Int32} {hF : AH} (e : f_J19_hasNext x0 h = some (r, hF)) : MetV D l yJ19_hasNext (Cond.code yJ19_hasNext cJ19_hasNext 1 (Option.some .boolean)) 1 48 [.ref x0] h hF (oI r) :=
  met_ofF (by decide +kernel) hl (Nat.le_of_ble_eq_true rfl) rfl (v_J19_hasNext D l hl [.ref x0] h x0 h e)
/-! java/util/ArrayList$Itr.checkForComodification()V  -/
abbrev G_J19_checkForComodification (D : va_G) (l : Launch) (as : List Value) (h0 hF : AH) (o : Out) : CT := (D, l, (yJ19_checkForComodification.cls, yJ19_checkForComodification, cJ19_checkForComodification, 1, (Option.none : Option FieldType), 1, 48, []), as, h0, hF, o)
theorem hc_J19_checkForComodification {D : va_G} {l : Launch} {as : List Value} {h0 hF : AH} {o : Out} : gC (G_J19_checkForComodification D l as h0 hF o) = cJ19_checkForComodification := rfl
theorem ho_J19_checkForComodification {D : va_G} {l : Launch} {as : List Value} {h0 hF : AH} {o : Out} : gO (G_J19_checkForComodification D l as h0 hF o) = "java/util/ArrayList$Itr" := rfl
theorem hp_J19_checkForComodification {D : va_G} {l : Launch} {as : List Value} {h0 hF : AH} {o : Out} (pc : Nat) : ∀ z ∈ tableOf (gHd (G_J19_checkForComodification D l as h0 hF o)), covers z pc = false := hpN
def f_J19_checkForComodification (x0 : Nat) (h : AH) : Option (Unit × AH) :=
  bd (gtR h 20 x0 3) fun v1 =>
  bd (gtI h 16 v1 0) fun v2 =>
  bd (gtI h 20 x0 2) fun v3 =>
  if v2 = v3 then (
    some ((), h)
  ) else (
    none
  )
theorem v_J19_checkForComodification (D : va_G) (l : Launch) (hl : l.stackTraces = false) (as : List Value) (h0 : AH) {r : Unit} {hF : AH} (x0 : Nat) (h : AH) (e : f_J19_checkForComodification x0 h = some (r, hF)) : V (G_J19_checkForComodification D l as h0 hF (oV r)) h 0 [(0, .ref x0)] [] := by
  unfold f_J19_checkForComodification at e
  refine v_aload_n (pc' := 1) hc_J19_checkForComodification dJ19_checkForComodification_0 rfl rfl 0 rfl ?_
  refine v_gfR (pc' := 4) hc_J19_checkForComodification ho_J19_checkForComodification KJ19 3 (Nat.le_of_ble_eq_true rfl) q375 (Or.inl rfl) dJ19_checkForComodification_1 rfl e (fun v1 _ e => ?_)
  refine v_gfI (pc' := 7) hc_J19_checkForComodification ho_J19_checkForComodification KJ2 0 (Nat.le_of_ble_eq_true rfl) q154 (Or.inr q155) dJ19_checkForComodification_4 rfl e (fun v2 _ e => ?_)
  refine v_aload_n (pc' := 8) hc_J19_checkForComodification dJ19_checkForComodification_7 rfl rfl 0 rfl ?_
  refine v_gfI (pc' := 11) hc_J19_checkForComodification ho_J19_checkForComodification KJ19 2 (Nat.le_of_ble_eq_true rfl) q374 (Or.inl rfl) dJ19_checkForComodification_8 rfl e (fun v3 _ e => ?_)
  refine v_icmp_eq (pt := 22) (pf := 14) hc_J19_checkForComodification dJ19_checkForComodification_11 rfl rfl e (fun _ e => ?_) (fun _ e => ?_)
  · obtain ⟨rfl, rfl⟩ := ret_of e
    exact v_ret hc_J19_checkForComodification rfl dJ19_checkForComodification_22 rfl rfl
  · exact nomatch e
theorem w_J19_checkForComodification (D : va_G) (l : Launch) (hl : l.stackTraces = false) (x0 : Nat) (h : AH) {r : Unit} {hF : AH} (e : f_J19_checkForComodification x0 h = some (r, hF)) : MetV D l yJ19_checkForComodification (Cond.code yJ19_checkForComodification cJ19_checkForComodification 1 (Option.none : Option FieldType)) 1 48 [.ref x0] h hF (oV r) :=
  met_ofF (by decide +kernel) hl (Nat.le_of_ble_eq_true rfl) rfl (v_J19_checkForComodification D l hl [.ref x0] h x0 h e)
/-! java/util/ArrayList$Itr.next()Ljava/lang/Object;  -/
abbrev G_J19_next (D : va_G) (l : Launch) (as : List Value) (h0 hF : AH) (o : Out) : CT := (D, l, (yJ19_next.cls, yJ19_next, cJ19_next, 3, (Option.some (.object "java/lang/Object")), 2, 68, []), as, h0, hF, o)
theorem hc_J19_next {D : va_G} {l : Launch} {as : List Value} {h0 hF : AH} {o : Out} : gC (G_J19_next D l as h0 hF o) = cJ19_next := rfl
theorem ho_J19_next {D : va_G} {l : Launch} {as : List Value} {h0 hF : AH} {o : Out} : gO (G_J19_next D l as h0 hF o) = "java/util/ArrayList$Itr" := rfl
theorem hp_J19_next {D : va_G} {l : Launch} {as : List Value} {h0 hF : AH} {o : Out} (pc : Nat) : ∀ z ∈ tableOf (gHd (G_J19_next D l as h0 hF o)), covers z pc = false := hpN
def f_J19_next (x0 : Nat) (h : AH) : Option (Nat × AH) :=
  gd (isC h 20 x0) <|
  bd2 (f_J19_checkForComodification x0 h) fun r2 h3 =>
  bd (gtI h3 20 x0 0) fun v5 =>
  bd (gtR h3 20 x0 3) fun v6 =>
  bd (gtI h3 16 v6 2) fun v7 =>
  if v5 < v7 then (
    bd (gtR h3 20 x0 3) fun v8 =>
    bd (gtR h3 16 v8 1) fun v9 =>
    bd (aLn h3 v9) fun v10 =>
    if v5 < v10 then (
      bd (stF h3 20 x0 0 (.int (v5 + (1 : Int32)))) fun h11 =>
      bd (stF h11 20 x0 1 (.int v5)) fun h12 =>
      bd (ldN h12 v9 v5) fun v13 =>
      some (v13, h12)
    ) else (
      none
    )
  ) else (
    none
  )
theorem v_J19_next (D : va_G) (l : Launch) (hl : l.stackTraces = false) (as : List Value) (h0 : AH) {r : Nat} {hF : AH} (x0 : Nat) (h : AH) (e : f_J19_next x0 h = some (r, hF)) : V (G_J19_next D l as h0 hF (oR r)) h 0 [(0, .ref x0)] [] := by
  unfold f_J19_next at e
  refine v_aload_n (pc' := 1) hc_J19_next dJ19_next_0 rfl rfl 0 rfl ?_
  obtain ⟨c1, e⟩ := gd_of e
  obtain ⟨r2, h3, e4, e⟩ := bd2_of e
  refine k_V (pc' := 4) (ci := 20) (n := 0) hc_J19_next ho_J19_next rfl c1 (w_J19_checkForComodification D l hl x0 h e4) (wA_l q461) q462 (wA_l q463) q101 q464 hy_110 ⟨Nat.le_of_ble_eq_true rfl, Nat.le_of_ble_eq_true rfl⟩ rfl rfl (Nat.le_of_ble_eq_true rfl) dJ19_next_1 rfl (kU ?_) kN
  refine v_aload_n (pc' := 5) hc_J19_next dJ19_next_4 rfl rfl 0 rfl ?_
  refine v_gfI (pc' := 8) hc_J19_next ho_J19_next KJ19 0 (Nat.le_of_ble_eq_true rfl) q372 (Or.inl rfl) dJ19_next_5 rfl e (fun v5 _ e => ?_)
  refine v_istore_n (pc' := 9) (lv' := [(1, .int v5), (0, .ref x0)]) hc_J19_next dJ19_next_8 rfl rfl (Nat.le_of_ble_eq_true rfl) rfl ?_
  refine v_iload_n (pc' := 10) hc_J19_next dJ19_next_9 rfl rfl 0 rfl ?_
  refine v_aload_n (pc' := 11) hc_J19_next dJ19_next_10 rfl rfl 1 rfl ?_
  refine v_gfR (pc' := 14) hc_J19_next ho_J19_next KJ19 3 (Nat.le_of_ble_eq_true rfl) q375 (Or.inl rfl) dJ19_next_11 rfl e (fun v6 _ e => ?_)
  refine v_gnI (pc' := 17) hc_J19_next ho_J19_next KJ2 2 (Nat.le_of_ble_eq_true rfl) q151 rfl dJ19_next_14 rfl e (fun v7 _ e => ?_)
  refine v_icmp_lt (pt := 28) (pf := 20) hc_J19_next dJ19_next_17 rfl rfl e (fun _ e => ?_) (fun _ e => ?_)
  · refine v_aload_n (pc' := 29) hc_J19_next dJ19_next_28 rfl rfl 1 rfl ?_
    refine v_gfR (pc' := 32) hc_J19_next ho_J19_next KJ19 3 (Nat.le_of_ble_eq_true rfl) q375 (Or.inl rfl) dJ19_next_29 rfl e (fun v8 _ e => ?_)
    refine v_gfR (pc' := 35) hc_J19_next ho_J19_next KJ2 1 (Nat.le_of_ble_eq_true rfl) q150 (Or.inl rfl) dJ19_next_32 rfl e (fun v9 _ e => ?_)
    refine v_astore_n (pc' := 36) (lv' := [(2, .ref v9), (1, .int v5), (0, .ref x0)]) hc_J19_next dJ19_next_35 rfl rfl (Nat.le_of_ble_eq_true rfl) rfl ?_
    refine v_iload_n (pc' := 37) hc_J19_next dJ19_next_36 rfl rfl 1 rfl ?_
    refine v_aload_n (pc' := 38) hc_J19_next dJ19_next_37 rfl rfl 0 rfl ?_
    refine v_alen (pc' := 39) hc_J19_next dJ19_next_38 rfl e (fun v10 _ e => ?_)
    refine v_icmp_lt (pt := 50) (pf := 42) hc_J19_next dJ19_next_39 rfl rfl e (fun _ e => ?_) (fun _ e => ?_)
    · refine v_aload_n (pc' := 51) hc_J19_next dJ19_next_50 rfl rfl 2 rfl ?_
      refine v_iload_n (pc' := 52) hc_J19_next dJ19_next_51 rfl rfl 1 rfl ?_
      refine v_iconst (pc' := 53) (v := 1) hc_J19_next dJ19_next_52 rfl rfl ?_
      refine v_iadd (pc' := 54) hc_J19_next dJ19_next_53 rfl ?_
      refine v_pf (pc' := 57) hc_J19_next ho_J19_next KJ19 0 (Nat.le_of_ble_eq_true rfl) q372 (Or.inl rfl) rfl dJ19_next_54 rfl rfl rfl e (fun h11 _ e => ?_)
      refine v_aload_n (pc' := 58) hc_J19_next dJ19_next_57 rfl rfl 0 rfl ?_
      refine v_aload_n (pc' := 59) hc_J19_next dJ19_next_58 rfl rfl 2 rfl ?_
      refine v_iload_n (pc' := 60) hc_J19_next dJ19_next_59 rfl rfl 1 rfl ?_
      refine v_dup_x1 (pc' := 61) hc_J19_next dJ19_next_60 rfl rfl rfl ?_
      refine v_pf (pc' := 64) hc_J19_next ho_J19_next KJ19 1 (Nat.le_of_ble_eq_true rfl) q373 (Or.inl rfl) rfl dJ19_next_61 rfl rfl rfl e (fun h12 _ e => ?_)
      refine v_aald (pc' := 65) hc_J19_next dJ19_next_64 rfl e (fun v13 _ e => ?_)
      obtain ⟨rfl, rfl⟩ := ret_of e
      exact v_aret hc_J19_next rfl (Or.inl ⟨_, rfl⟩) (Or.inr ⟨_, rfl⟩) dJ19_next_65 rfl rfl
    · exact nomatch e
  · exact nomatch e
theorem w_J19_next (D : va_G) (l : Launch) (hl : l.stackTraces = false) (x0 : Nat) (h : AH) {r : Nat} {hF : AH} (e : f_J19_next x0 h = some (r, hF)) : MetV D l yJ19_next (Cond.code yJ19_next cJ19_next 3 (Option.some (.object "java/lang/Object"))) 2 68 [.ref x0] h hF (oR r) :=
  met_ofF (by decide +kernel) hl (Nat.le_of_ble_eq_true rfl) rfl (v_J19_next D l hl [.ref x0] h x0 h e)
/-! java/lang/Throwable.<init>(Ljava/lang/String;Ljava/lang/Throwable;ZZ)V {'ci': 6, 'nul': (1,)} -/
abbrev G_J9_init_3_6_n1 (D : va_G) (l : Launch) (as : List Value) (h0 hF : AH) (o : Out) : CT := (D, l, (yJ9_init_3.cls, yJ9_init_3, cJ9_init_3, 5, (Option.none : Option FieldType), 1, 48, []), as, h0, hF, o)
theorem hc_J9_init_3_6_n1 {D : va_G} {l : Launch} {as : List Value} {h0 hF : AH} {o : Out} : gC (G_J9_init_3_6_n1 D l as h0 hF o) = cJ9_init_3 := rfl
theorem ho_J9_init_3_6_n1 {D : va_G} {l : Launch} {as : List Value} {h0 hF : AH} {o : Out} : gO (G_J9_init_3_6_n1 D l as h0 hF o) = "java/lang/Throwable" := rfl
theorem hp_J9_init_3_6_n1 {D : va_G} {l : Launch} {as : List Value} {h0 hF : AH} {o : Out} (pc : Nat) : ∀ z ∈ tableOf (gHd (G_J9_init_3_6_n1 D l as h0 hF o)), covers z pc = false := hpN
def f_J9_init_3_6_n1_j41 (x0 : Nat) (x2 : Nat) (x3 : Int32) (h : AH) : Option (Unit × AH) :=
  bd (stF h 6 x0 3 .null) fun h1 =>
  bd (stF h1 6 x0 0 (.ref x2)) fun h2 =>
  if x3 = 0 then (
    bd (stF h2 6 x0 2 .null) fun h3 =>
    some ((), h3)
  ) else (
    some ((), h2)
  )
theorem w_J9_init_3_6_n1_j41 (D : va_G) (l : Launch) (hl : l.stackTraces = false) (as : List Value) (h0 : AH) {r : Unit} {hF : AH} (x0 : Nat) (x2 : Nat) (x3 : Int32) (h : AH) (e : f_J9_init_3_6_n1_j41 x0 x2 x3 h = some (r, hF)) : V (G_J9_init_3_6_n1 D l as h0 hF (oV r)) h 41 [(0, .ref x0), (1, .null), (2, .ref x2), (3, .int x3)] [] := by
  unfold f_J9_init_3_6_n1_j41 at e
  refine v_aload_n (pc' := 42) hc_J9_init_3_6_n1 dJ9_init_3_41 rfl rfl 0 rfl ?_
  refine v_aload_nN (pc' := 43) hc_J9_init_3_6_n1 dJ9_init_3_42 rfl rfl 1 rfl ?_
  refine v_pf (pc' := 46) hc_J9_init_3_6_n1 ho_J9_init_3_6_n1 KX7 3 (Nat.le_of_ble_eq_true rfl) q331 (Or.inl rfl) rfl dJ9_init_3_43 rfl rfl rfl e (fun h1 _ e => ?_)
  refine v_aload_n (pc' := 47) hc_J9_init_3_6_n1 dJ9_init_3_46 rfl rfl 0 rfl ?_
  refine v_aload_n (pc' := 48) hc_J9_init_3_6_n1 dJ9_init_3_47 rfl rfl 2 rfl ?_
  refine v_pf (pc' := 51) hc_J9_init_3_6_n1 ho_J9_init_3_6_n1 KX7 0 (Nat.le_of_ble_eq_true rfl) q332 (Or.inl rfl) rfl dJ9_init_3_48 rfl rfl rfl e (fun h2 _ e => ?_)
  refine v_iload_n (pc' := 52) hc_J9_init_3_6_n1 dJ9_init_3_51 rfl rfl 3 rfl ?_
  refine v_if_ne (pt := 60) (pf := 55) hc_J9_init_3_6_n1 dJ9_init_3_52 rfl rfl e (fun _ e => ?_) (fun _ e => ?_)
  · refine v_aload_n (pc' := 56) hc_J9_init_3_6_n1 dJ9_init_3_55 rfl rfl 0 rfl ?_
    refine v_null (pc' := 57) hc_J9_init_3_6_n1 dJ9_init_3_56 rfl ?_
    refine v_pf (pc' := 60) hc_J9_init_3_6_n1 ho_J9_init_3_6_n1 KX7 2 (Nat.le_of_ble_eq_true rfl) q334 (Or.inl rfl) rfl dJ9_init_3_57 rfl rfl rfl e (fun h3 _ e => ?_)
    obtain ⟨rfl, rfl⟩ := ret_of e
    exact v_ret hc_J9_init_3_6_n1 rfl dJ9_init_3_60 rfl rfl
  · obtain ⟨rfl, rfl⟩ := ret_of e
    exact v_ret hc_J9_init_3_6_n1 rfl dJ9_init_3_60 rfl rfl
def f_J9_init_3_6_n1 (x0 : Nat) (x2 : Nat) (x3 : Int32) (x4 : Int32) (h : AH) : Option (Unit × AH) :=
  bd (stF h 6 x0 0 (.ref x0)) fun h1 =>
  bd (stF h1 6 x0 1 (va_rf (aE h1 3))) fun h2 =>
  bd (stF h2 6 x0 2 (va_rf (aE h2 4))) fun h3 =>
  if x4 = 0 then (
    bd (stF h3 6 x0 1 .null) fun h4 =>
    f_J9_init_3_6_n1_j41 x0 x2 x3 h4
  ) else (
    none
  )
theorem v_J9_init_3_6_n1 (D : va_G) (l : Launch) (hl : l.stackTraces = false) (as : List Value) (h0 : AH) {r : Unit} {hF : AH} (x0 : Nat) (x2 : Nat) (x3 : Int32) (x4 : Int32) (h : AH) (e : f_J9_init_3_6_n1 x0 x2 x3 x4 h = some (r, hF)) : V (G_J9_init_3_6_n1 D l as h0 hF (oV r)) h 0 [(0, .ref x0), (1, .null), (2, .ref x2), (3, .int x3), (4, .int x4)] [] := by
  unfold f_J9_init_3_6_n1 at e
  refine v_aload_n (pc' := 1) hc_J9_init_3_6_n1 dJ9_init_3_0 rfl rfl 0 rfl ?_
  refine v_oinit (pc' := 4) hc_J9_init_3_6_n1 ho_J9_init_3_6_n1 q297 q127 q128 ⟨Nat.le_of_ble_eq_true rfl, Nat.le_of_ble_eq_true rfl⟩ dJ9_init_3_1 rfl ?_
  refine v_aload_n (pc' := 5) hc_J9_init_3_6_n1 dJ9_init_3_4 rfl rfl 0 rfl ?_
  refine v_aload_n (pc' := 6) hc_J9_init_3_6_n1 dJ9_init_3_5 rfl rfl 0 rfl ?_
  refine v_pf (pc' := 9) hc_J9_init_3_6_n1 ho_J9_init_3_6_n1 KX7 0 (Nat.le_of_ble_eq_true rfl) q332 (Or.inl rfl) rfl dJ9_init_3_6 rfl rfl rfl e (fun h1 _ e => ?_)
  refine v_aload_n (pc' := 10) hc_J9_init_3_6_n1 dJ9_init_3_9 rfl rfl 0 rfl ?_
  refine v_getsR (pc' := 13) (j := 3) hc_J9_init_3_6_n1 ho_J9_init_3_6_n1 (by decide +kernel) q298 dJ9_init_3_10 rfl ?_
  refine v_pf (pc' := 16) hc_J9_init_3_6_n1 ho_J9_init_3_6_n1 KX7 1 (Nat.le_of_ble_eq_true rfl) q333 (Or.inl rfl) rfl dJ9_init_3_13 rfl (nrw_rfa _) (fit_rfa _) e (fun h2 _ e => ?_)
  refine v_aload_n (pc' := 17) hc_J9_init_3_6_n1 dJ9_init_3_16 rfl rfl 0 rfl ?_
  refine v_getsR (pc' := 20) (j := 4) hc_J9_init_3_6_n1 ho_J9_init_3_6_n1 (by decide +kernel) q300 dJ9_init_3_17 rfl ?_
  refine v_pf (pc' := 23) hc_J9_init_3_6_n1 ho_J9_init_3_6_n1 KX7 2 (Nat.le_of_ble_eq_true rfl) q334 (Or.inl rfl) rfl dJ9_init_3_20 rfl (nrw_rf _) (fit_rf _) e (fun h3 _ e => ?_)
  refine v_iload (pc' := 25) hc_J9_init_3_6_n1 dJ9_init_3_23 rfl 4 rfl ?_
  refine v_if_eq (pt := 36) (pf := 28) hc_J9_init_3_6_n1 dJ9_init_3_25 rfl rfl e (fun _ e => ?_) (fun _ e => ?_)
  · refine v_aload_n (pc' := 37) hc_J9_init_3_6_n1 dJ9_init_3_36 rfl rfl 0 rfl ?_
    refine v_null (pc' := 38) hc_J9_init_3_6_n1 dJ9_init_3_37 rfl ?_
    refine v_pf (pc' := 41) hc_J9_init_3_6_n1 ho_J9_init_3_6_n1 KX7 1 (Nat.le_of_ble_eq_true rfl) q333 (Or.inl rfl) rfl dJ9_init_3_38 rfl rfl rfl e (fun h4 _ e => ?_)
    refine v_pick [0, 1, 2, 3] rfl ?_
    exact w_J9_init_3_6_n1_j41 D l hl as h0 x0 x2 x3 h4 e
  · refine v_aload_n (pc' := 29) hc_J9_init_3_6_n1 dJ9_init_3_28 rfl rfl 0 rfl ?_
    exact nomatch e
theorem w_J9_init_3_6_n1 (D : va_G) (l : Launch) (hl : l.stackTraces = false) (x0 : Nat) (x2 : Nat) (x3 : Int32) (x4 : Int32) (h : AH) {r : Unit} {hF : AH} (e : f_J9_init_3_6_n1 x0 x2 x3 x4 h = some (r, hF)) : MetV D l yJ9_init_3 (Cond.code yJ9_init_3 cJ9_init_3 5 (Option.none : Option FieldType)) 1 48 [.ref x0, .null, .ref x2, .int x3, .int x4] h hF (oV r) :=
  met_ofF (by decide +kernel) hl (Nat.le_of_ble_eq_true rfl) rfl (v_J9_init_3_6_n1 D l hl [.ref x0, .null, .ref x2, .int x3, .int x4] h x0 x2 x3 x4 h e)
/-! java/lang/Exception.<init>(Ljava/lang/String;Ljava/lang/Throwable;ZZ)V {'ci': 6, 'nul': (1,)} -/
abbrev G_J10_init_3_6_n1 (D : va_G) (l : Launch) (as : List Value) (h0 hF : AH) (o : Out) : CT := (D, l, (yJ10_init_3.cls, yJ10_init_3, cJ10_init_3, 5, (Option.none : Option FieldType), 2, 72, []), as, h0, hF, o)
theorem hc_J10_init_3_6_n1 {D : va_G} {l : Launch} {as : List Value} {h0 hF : AH} {o : Out} : gC (G_J10_init_3_6_n1 D l as h0 hF o) = cJ10_init_3 := rfl
theorem ho_J10_init_3_6_n1 {D : va_G} {l : Launch} {as : List Value} {h0 hF : AH} {o : Out} : gO (G_J10_init_3_6_n1 D l as h0 hF o) = "java/lang/Exception" := rfl
theorem hp_J10_init_3_6_n1 {D : va_G} {l : Launch} {as : List Value} {h0 hF : AH} {o : Out} (pc : Nat) : ∀ z ∈ tableOf (gHd (G_J10_init_3_6_n1 D l as h0 hF o)), covers z pc = false := hpN
def f_J10_init_3_6_n1 (x0 : Nat) (x2 : Nat) (x3 : Int32) (x4 : Int32) (h : AH) : Option (Unit × AH) :=
  bd2 (f_J9_init_3_6_n1 x0 x2 x3 x4 h) fun r1 h2 =>
  some ((), h2)
theorem v_J10_init_3_6_n1 (D : va_G) (l : Launch) (hl : l.stackTraces = false) (as : List Value) (h0 : AH) {r : Unit} {hF : AH} (x0 : Nat) (x2 : Nat) (x3 : Int32) (x4 : Int32) (h : AH) (e : f_J10_init_3_6_n1 x0 x2 x3 x4 h = some (r, hF)) : V (G_J10_init_3_6_n1 D l as h0 hF (oV r)) h 0 [(0, .ref x0), (1, .null), (2, .ref x2), (3, .int x3), (4, .int x4)] [] := by
  unfold f_J10_init_3_6_n1 at e
  refine v_aload_n (pc' := 1) hc_J10_init_3_6_n1 dJ10_init_3_0 rfl rfl 0 rfl ?_
  refine v_aload_nN (pc' := 2) hc_J10_init_3_6_n1 dJ10_init_3_1 rfl rfl 1 rfl ?_
  refine v_aload_n (pc' := 3) hc_J10_init_3_6_n1 dJ10_init_3_2 rfl rfl 2 rfl ?_
  refine v_iload_n (pc' := 4) hc_J10_init_3_6_n1 dJ10_init_3_3 rfl rfl 3 rfl ?_
  refine v_iload (pc' := 6) hc_J10_init_3_6_n1 dJ10_init_3_4 rfl 4 rfl ?_
  obtain ⟨r1, h2, e3, e⟩ := bd2_of e
  refine k_I (pc' := 9) (n := 4) hc_J10_init_3_6_n1 ho_J10_init_3_6_n1 (w_J9_init_3_6_n1 D l hl x0 x2 x3 x4 h e3) (wA_l q1107) q1108 q88 q1109 rfl hy_41 ⟨Nat.le_of_ble_eq_true rfl, Nat.le_of_ble_eq_true rfl⟩ rfl rfl (Nat.le_of_ble_eq_true rfl) dJ10_init_3_6 rfl (kU ?_) kN
  obtain ⟨rfl, rfl⟩ := ret_of e
  exact v_ret hc_J10_init_3_6_n1 rfl dJ10_init_3_9 rfl rfl
theorem w_J10_init_3_6_n1 (D : va_G) (l : Launch) (hl : l.stackTraces = false) (x0 : Nat) (x2 : Nat) (x3 : Int32) (x4 : Int32) (h : AH) {r : Unit} {hF : AH} (e : f_J10_init_3_6_n1 x0 x2 x3 x4 h = some (r, hF)) : MetV D l yJ10_init_3 (Cond.code yJ10_init_3 cJ10_init_3 5 (Option.none : Option FieldType)) 2 72 [.ref x0, .null, .ref x2, .int x3, .int x4] h hF (oV r) :=
  met_ofF (by decide +kernel) hl (Nat.le_of_ble_eq_true rfl) rfl (v_J10_init_3_6_n1 D l hl [.ref x0, .null, .ref x2, .int x3, .int x4] h x0 x2 x3 x4 h e)
/-! java/lang/Integer.stringSize(I)I  -/
abbrev G_J13_stringSize (D : va_G) (l : Launch) (as : List Value) (h0 hF : AH) (o : Out) : CT := (D, l, (yJ13_stringSize.cls, yJ13_stringSize, cJ13_stringSize, 4, (Option.some .int), 1, 48, []), as, h0, hF, o)
theorem hc_J13_stringSize {D : va_G} {l : Launch} {as : List Value} {h0 hF : AH} {o : Out} : gC (G_J13_stringSize D l as h0 hF o) = cJ13_stringSize := rfl
theorem ho_J13_stringSize {D : va_G} {l : Launch} {as : List Value} {h0 hF : AH} {o : Out} : gO (G_J13_stringSize D l as h0 hF o) = "java/lang/Integer" := rfl
theorem hp_J13_stringSize {D : va_G} {l : Launch} {as : List Value} {h0 hF : AH} {o : Out} (pc : Nat) : ∀ z ∈ tableOf (gHd (G_J13_stringSize D l as h0 hF o)), covers z pc = false := hpN
def fb_J13_stringSize_l16 (rec : Int32 → Int32 → Int32 → Int32 → AH → Option (Int32 × AH)) (x0 : Int32) (x1 : Int32) (x2 : Int32) (x3 : Int32) (h : AH) : Option (Int32 × AH) :=
  if (10 : Int32) ≤ x3 then (
    some (((10 : Int32) + x1), h)
  ) else (
    if x0 ≤ x2 then (
      rec x0 x1 ((10 : Int32) * x2) (x3 + 1) h
    ) else (
      some ((x3 + x1), h)
    )
  )
def f_J13_stringSize_l16 : Nat → Int32 → Int32 → Int32 → Int32 → AH → Option (Int32 × AH)
  | 0 => fun _ _ _ _ _ => none
  | n + 1 => fb_J13_stringSize_l16 (f_J13_stringSize_l16 n) 
theorem w_J13_stringSize_l16 (D : va_G) (l : Launch) (hl : l.stackTraces = false) (as : List Value) (h0 : AH) {r : Int32} {hF : AH} : ∀ (n : Nat) (x0 : Int32) (x1 : Int32) (x2 : Int32) (x3 : Int32) (h : AH), f_J13_stringSize_l16 n x0 x1 x2 x3 h = some (r, hF) → V (G_J13_stringSize D l as h0 hF (oI r)) h 16 [(0, .int x0), (1, .int x1), (2, .int x2), (3, .int x3)] [] := by
  intro n; induction n with
  | zero => intro x0 x1 x2 x3 h e; exact absurd (show (none : Option (Int32 × AH)) = some _ from e) (fun z => nomatch z)
  | succ n IH =>
    intro x0 x1 x2 x3 h e
    have e : fb_J13_stringSize_l16 (f_J13_stringSize_l16 n) x0 x1 x2 x3 h = some (r, hF) := e
    unfold fb_J13_stringSize_l16 at e
    refine v_iload_n (pc' := 17) hc_J13_stringSize dJ13_stringSize_16 rfl rfl 3 rfl ?_
    refine v_bipush (pc' := 19) (v := 10) hc_J13_stringSize dJ13_stringSize_17 rfl rfl ?_
    refine v_icmp_ge (pt := 42) (pf := 22) hc_J13_stringSize dJ13_stringSize_19 rfl rfl e (fun _ e => ?_) (fun _ e => ?_)
    · refine v_bipush (pc' := 44) (v := 10) hc_J13_stringSize dJ13_stringSize_42 rfl rfl ?_
      refine v_iload_n (pc' := 45) hc_J13_stringSize dJ13_stringSize_44 rfl rfl 1 rfl ?_
      refine v_iadd (pc' := 46) hc_J13_stringSize dJ13_stringSize_45 rfl ?_
      obtain ⟨rfl, rfl⟩ := ret_of e
      exact v_iret hc_J13_stringSize rfl dJ13_stringSize_46 rfl rfl
    · refine v_iload_n (pc' := 23) hc_J13_stringSize dJ13_stringSize_22 rfl rfl 0 rfl ?_
      refine v_iload_n (pc' := 24) hc_J13_stringSize dJ13_stringSize_23 rfl rfl 2 rfl ?_
      refine v_icmp_le (pt := 31) (pf := 27) hc_J13_stringSize dJ13_stringSize_24 rfl rfl e (fun _ e => ?_) (fun _ e => ?_)
      · refine v_bipush (pc' := 33) (v := 10) hc_J13_stringSize dJ13_stringSize_31 rfl rfl ?_
        refine v_iload_n (pc' := 34) hc_J13_stringSize dJ13_stringSize_33 rfl rfl 2 rfl ?_
        refine v_imul (pc' := 35) hc_J13_stringSize dJ13_stringSize_34 rfl ?_
        refine v_istore_n (pc' := 36) (lv' := [(2, .int ((10 : Int32) * x2)), (0, .int x0), (1, .int x1), (3, .int x3)]) hc_J13_stringSize dJ13_stringSize_35 rfl rfl (Nat.le_of_ble_eq_true rfl) rfl ?_
        refine v_iinc (pc' := 39) (lv' := [(3, .int (x3 + 1)), (2, .int ((10 : Int32) * x2)), (0, .int x0), (1, .int x1)]) (v := x3 + 1) hc_J13_stringSize dJ13_stringSize_36 rfl 3 rfl rfl (Nat.le_of_ble_eq_true rfl) rfl ?_
        refine v_goto (pt := 16) hc_J13_stringSize dJ13_stringSize_39 rfl ?_
        refine v_pick [2, 3, 1, 0] rfl ?_
        exact IH x0 x1 ((10 : Int32) * x2) (x3 + 1) h e
      · refine v_iload_n (pc' := 28) hc_J13_stringSize dJ13_stringSize_27 rfl rfl 3 rfl ?_
        refine v_iload_n (pc' := 29) hc_J13_stringSize dJ13_stringSize_28 rfl rfl 1 rfl ?_
        refine v_iadd (pc' := 30) hc_J13_stringSize dJ13_stringSize_29 rfl ?_
        obtain ⟨rfl, rfl⟩ := ret_of e
        exact v_iret hc_J13_stringSize rfl dJ13_stringSize_30 rfl rfl
def f_J13_stringSize (x0 : Int32) (h : AH) : Option (Int32 × AH) :=
  if x0 < 0 then (
    f_J13_stringSize_l16 NN x0 (1 : Int32) (-10 : Int32) (1 : Int32) h
  ) else (
    f_J13_stringSize_l16 NN (-x0) (0 : Int32) (-10 : Int32) (1 : Int32) h
  )
theorem v_J13_stringSize (D : va_G) (l : Launch) (hl : l.stackTraces = false) (as : List Value) (h0 : AH) {r : Int32} {hF : AH} (x0 : Int32) (h : AH) (e : f_J13_stringSize x0 h = some (r, hF)) : V (G_J13_stringSize D l as h0 hF (oI r)) h 0 [(0, .int x0)] [] := by
  unfold f_J13_stringSize at e
  refine v_iconst (pc' := 1) (v := 1) hc_J13_stringSize dJ13_stringSize_0 rfl rfl ?_
  refine v_istore_n (pc' := 2) (lv' := [(1, .int (1 : Int32)), (0, .int x0)]) hc_J13_stringSize dJ13_stringSize_1 rfl rfl (Nat.le_of_ble_eq_true rfl) rfl ?_
  refine v_iload_n (pc' := 3) hc_J13_stringSize dJ13_stringSize_2 rfl rfl 1 rfl ?_
  refine v_if_lt (pt := 11) (pf := 6) hc_J13_stringSize dJ13_stringSize_3 rfl rfl e (fun _ e => ?_) (fun _ e => ?_)
  · refine v_bipush (pc' := 13) (v := (-10)) hc_J13_stringSize dJ13_stringSize_11 rfl rfl ?_
    refine v_istore_n (pc' := 14) (lv' := [(2, .int (-10 : Int32)), (1, .int (1 : Int32)), (0, .int x0)]) hc_J13_stringSize dJ13_stringSize_13 rfl rfl (Nat.le_of_ble_eq_true rfl) rfl ?_
    refine v_iconst (pc' := 15) (v := 1) hc_J13_stringSize dJ13_stringSize_14 rfl rfl ?_
    refine v_istore_n (pc' := 16) (lv' := [(3, .int (1 : Int32)), (2, .int (-10 : Int32)), (1, .int (1 : Int32)), (0, .int x0)]) hc_J13_stringSize dJ13_stringSize_15 rfl rfl (Nat.le_of_ble_eq_true rfl) rfl ?_
    refine v_pick [3, 2, 1, 0] rfl ?_
    exact w_J13_stringSize_l16 D l hl as h0 NN x0 (1 : Int32) (-10 : Int32) (1 : Int32) h e
  · refine v_iconst (pc' := 7) (v := 0) hc_J13_stringSize dJ13_stringSize_6 rfl rfl ?_
    refine v_istore_n (pc' := 8) (lv' := [(1, .int (0 : Int32)), (0, .int x0)]) hc_J13_stringSize dJ13_stringSize_7 rfl rfl (Nat.le_of_ble_eq_true rfl) rfl ?_
    refine v_iload_n (pc' := 9) hc_J13_stringSize dJ13_stringSize_8 rfl rfl 1 rfl ?_
    refine v_ineg (pc' := 10) hc_J13_stringSize dJ13_stringSize_9 rfl ?_
    refine v_istore_n (pc' := 11) (lv' := [(0, .int (-x0)), (1, .int (0 : Int32))]) hc_J13_stringSize dJ13_stringSize_10 rfl rfl (Nat.le_of_ble_eq_true rfl) rfl ?_
    refine v_bipush (pc' := 13) (v := (-10)) hc_J13_stringSize dJ13_stringSize_11 rfl rfl ?_
    refine v_istore_n (pc' := 14) (lv' := [(2, .int (-10 : Int32)), (0, .int (-x0)), (1, .int (0 : Int32))]) hc_J13_stringSize dJ13_stringSize_13 rfl rfl (Nat.le_of_ble_eq_true rfl) rfl ?_
    refine v_iconst (pc' := 15) (v := 1) hc_J13_stringSize dJ13_stringSize_14 rfl rfl ?_
    refine v_istore_n (pc' := 16) (lv' := [(3, .int (1 : Int32)), (2, .int (-10 : Int32)), (0, .int (-x0)), (1, .int (0 : Int32))]) hc_J13_stringSize dJ13_stringSize_15 rfl rfl (Nat.le_of_ble_eq_true rfl) rfl ?_
    refine v_pick [2, 3, 1, 0] rfl ?_
    exact w_J13_stringSize_l16 D l hl as h0 NN (-x0) (0 : Int32) (-10 : Int32) (1 : Int32) h e
theorem w_J13_stringSize (D : va_G) (l : Launch) (hl : l.stackTraces = false) (x0 : Int32) (h : AH) {r : Int32} {hF : AH} (e : f_J13_stringSize x0 h = some (r, hF)) : MetV D l yJ13_stringSize (Cond.code yJ13_stringSize cJ13_stringSize 4 (Option.some .int)) 1 48 [.int x0] h hF (oI r) :=
  met_ofF (by decide +kernel) hl (Nat.le_of_ble_eq_true rfl) rfl (v_J13_stringSize D l hl [.int x0] h x0 h e)
/-! java/lang/AbstractStringBuilder.newCapacity(I)I  -/
abbrev G_J4_newCapacity (D : va_G) (l : Launch) (as : List Value) (h0 hF : AH) (o : Out) : CT := (D, l, (yJ4_newCapacity.cls, yJ4_newCapacity, cJ4_newCapacity, 6, (Option.some .int), 3, 92, []), as, h0, hF, o)
theorem hc_J4_newCapacity {D : va_G} {l : Launch} {as : List Value} {h0 hF : AH} {o : Out} : gC (G_J4_newCapacity D l as h0 hF o) = cJ4_newCapacity := rfl
theorem ho_J4_newCapacity {D : va_G} {l : Launch} {as : List Value} {h0 hF : AH} {o : Out} : gO (G_J4_newCapacity D l as h0 hF o) = "java/lang/AbstractStringBuilder" := rfl
theorem hp_J4_newCapacity {D : va_G} {l : Launch} {as : List Value} {h0 hF : AH} {o : Out} (pc : Nat) : ∀ z ∈ tableOf (gHd (G_J4_newCapacity D l as h0 hF o)), covers z pc = false := hpN
def f_J4_newCapacity (x0 : Nat) (x1 : Int32) (h : AH) : Option (Int32 × AH) :=
  bd (gtR h 18 x0 0) fun v1 =>
  bd (aLn h v1) fun v2 =>
  bd (gtI h 18 x0 1) fun v3 =>
  bd (gtI h 18 x0 1) fun v4 =>
  bd2 (f_J14_newLength v2 ((x1 <<< (v3 &&& 31)) - v2) (v2 + ((2 : Int32) <<< (v4 &&& 31))) h) fun r5 h6 =>
  if r5 = (2147483647 : Int32) then (
    none
  ) else (
    bd (gtI h6 18 x0 1) fun v8 =>
    some ((r5 >>> (v8 &&& 31)), h6)
  )
theorem v_J4_newCapacity (D : va_G) (l : Launch) (hl : l.stackTraces = false) (as : List Value) (h0 : AH) {r : Int32} {hF : AH} (x0 : Nat) (x1 : Int32) (h : AH) (e : f_J4_newCapacity x0 x1 h = some (r, hF)) : V (G_J4_newCapacity D l as h0 hF (oI r)) h 0 [(0, .ref x0), (1, .int x1)] [] := by
  unfold f_J4_newCapacity at e
  refine v_aload_n (pc' := 1) hc_J4_newCapacity dJ4_newCapacity_0 rfl rfl 0 rfl ?_
  refine v_gfR (pc' := 4) hc_J4_newCapacity ho_J4_newCapacity KJ5 0 (Nat.le_of_ble_eq_true rfl) q219 (Or.inl rfl) dJ4_newCapacity_1 rfl e (fun v1 _ e => ?_)
  refine v_alen (pc' := 5) hc_J4_newCapacity dJ4_newCapacity_4 rfl e (fun v2 _ e => ?_)
  refine v_istore_n (pc' := 6) (lv' := [(2, .int v2), (0, .ref x0), (1, .int x1)]) hc_J4_newCapacity dJ4_newCapacity_5 rfl rfl (Nat.le_of_ble_eq_true rfl) rfl ?_
  refine v_iload_n (pc' := 7) hc_J4_newCapacity dJ4_newCapacity_6 rfl rfl 2 rfl ?_
  refine v_aload_n (pc' := 8) hc_J4_newCapacity dJ4_newCapacity_7 rfl rfl 1 rfl ?_
  refine v_gfI (pc' := 11) hc_J4_newCapacity ho_J4_newCapacity KJ5 1 (Nat.le_of_ble_eq_true rfl) q220 (Or.inl rfl) dJ4_newCapacity_8 rfl e (fun v3 _ e => ?_)
  refine v_ishl (pc' := 12) hc_J4_newCapacity dJ4_newCapacity_11 rfl ?_
  refine v_istore_n (pc' := 13) (lv' := [(3, .int (x1 <<< (v3 &&& 31))), (2, .int v2), (0, .ref x0), (1, .int x1)]) hc_J4_newCapacity dJ4_newCapacity_12 rfl rfl (Nat.le_of_ble_eq_true rfl) rfl ?_
  refine v_iload_n (pc' := 14) hc_J4_newCapacity dJ4_newCapacity_13 rfl rfl 0 rfl ?_
  refine v_iload_n (pc' := 15) hc_J4_newCapacity dJ4_newCapacity_14 rfl rfl 1 rfl ?_
  refine v_isub (pc' := 16) hc_J4_newCapacity dJ4_newCapacity_15 rfl ?_
  refine v_istore (pc' := 18) (lv' := [(4, .int ((x1 <<< (v3 &&& 31)) - v2)), (3, .int (x1 <<< (v3 &&& 31))), (2, .int v2), (0, .ref x0), (1, .int x1)]) hc_J4_newCapacity dJ4_newCapacity_16 rfl (Nat.le_of_ble_eq_true rfl) rfl ?_
  refine v_iload_n (pc' := 19) hc_J4_newCapacity dJ4_newCapacity_18 rfl rfl 2 rfl ?_
  refine v_iload (pc' := 21) hc_J4_newCapacity dJ4_newCapacity_19 rfl 0 rfl ?_
  refine v_iload_n (pc' := 22) hc_J4_newCapacity dJ4_newCapacity_21 rfl rfl 2 rfl ?_
  refine v_iconst (pc' := 23) (v := 2) hc_J4_newCapacity dJ4_newCapacity_22 rfl rfl ?_
  refine v_aload_n (pc' := 24) hc_J4_newCapacity dJ4_newCapacity_23 rfl rfl 3 rfl ?_
  refine v_gfI (pc' := 27) hc_J4_newCapacity ho_J4_newCapacity KJ5 1 (Nat.le_of_ble_eq_true rfl) q220 (Or.inl rfl) dJ4_newCapacity_24 rfl e (fun v4 _ e => ?_)
  refine v_ishl (pc' := 28) hc_J4_newCapacity dJ4_newCapacity_27 rfl ?_
  refine v_iadd (pc' := 29) hc_J4_newCapacity dJ4_newCapacity_28 rfl ?_
  obtain ⟨r5, h6, e7, e⟩ := bd2_of e
  refine k_S (pc' := 32) (n := 3) hc_J4_newCapacity ho_J4_newCapacity (w_J14_newLength D l hl v2 ((x1 <<< (v3 &&& 31)) - v2) (v2 + ((2 : Int32) <<< (v4 &&& 31))) h e7) (wA_l q611) q612 q94 q613 hy_16 ⟨Nat.le_of_ble_eq_true rfl, Nat.le_of_ble_eq_true rfl⟩ rfl rfl (Nat.le_of_ble_eq_true rfl) dJ4_newCapacity_29 rfl (kS ?_) kN
  refine v_istore (pc' := 34) (lv' := [(5, .int r5), (4, .int ((x1 <<< (v3 &&& 31)) - v2)), (3, .int (x1 <<< (v3 &&& 31))), (2, .int v2), (0, .ref x0), (1, .int x1)]) hc_J4_newCapacity dJ4_newCapacity_32 rfl (Nat.le_of_ble_eq_true rfl) rfl ?_
  refine v_iload (pc' := 36) hc_J4_newCapacity dJ4_newCapacity_34 rfl 0 rfl ?_
  refine v_ldcI (pc' := 38) (x := 2147483647) hc_J4_newCapacity ho_J4_newCapacity q621 dJ4_newCapacity_36 rfl ?_
  refine v_icmp_ne (pt := 51) (pf := 41) hc_J4_newCapacity dJ4_newCapacity_38 rfl rfl e (fun _ e => ?_) (fun _ e => ?_)
  · exact nomatch e
  · refine v_iload (pc' := 53) hc_J4_newCapacity dJ4_newCapacity_51 rfl 0 rfl ?_
    refine v_aload_n (pc' := 54) hc_J4_newCapacity dJ4_newCapacity_53 rfl rfl 4 rfl ?_
    refine v_gfI (pc' := 57) hc_J4_newCapacity ho_J4_newCapacity KJ5 1 (Nat.le_of_ble_eq_true rfl) q220 (Or.inl rfl) dJ4_newCapacity_54 rfl e (fun v8 _ e => ?_)
    refine v_ishr (pc' := 58) hc_J4_newCapacity dJ4_newCapacity_57 rfl ?_
    obtain ⟨rfl, rfl⟩ := ret_of e
    exact v_iret hc_J4_newCapacity rfl dJ4_newCapacity_58 rfl rfl
theorem w_J4_newCapacity (D : va_G) (l : Launch) (hl : l.stackTraces = false) (x0 : Nat) (x1 : Int32) (h : AH) {r : Int32} {hF : AH} (e : f_J4_newCapacity x0 x1 h = some (r, hF)) : MetV D l yJ4_newCapacity (Cond.code yJ4_newCapacity cJ4_newCapacity 6 (Option.some .int)) 3 92 [.ref x0, .int x1] h hF (oI r) :=
  met_ofF (by decide +kernel) hl (Nat.le_of_ble_eq_true rfl) rfl (v_J4_newCapacity D l hl [.ref x0, .int x1] h x0 x1 h e)
/-! java/util/Arrays.copyOf([BI)[B  -/
abbrev G_J8_copyOf (D : va_G) (l : Launch) (as : List Value) (h0 hF : AH) (o : Out) : CT := (D, l, (yJ8_copyOf.cls, yJ8_copyOf, cJ8_copyOf, 3, (Option.some (.array .byte)), 2, 69, []), as, h0, hF, o)
theorem hc_J8_copyOf {D : va_G} {l : Launch} {as : List Value} {h0 hF : AH} {o : Out} : gC (G_J8_copyOf D l as h0 hF o) = cJ8_copyOf := rfl
theorem ho_J8_copyOf {D : va_G} {l : Launch} {as : List Value} {h0 hF : AH} {o : Out} : gO (G_J8_copyOf D l as h0 hF o) = "java/util/Arrays" := rfl
theorem hp_J8_copyOf {D : va_G} {l : Launch} {as : List Value} {h0 hF : AH} {o : Out} (pc : Nat) : ∀ z ∈ tableOf (gHd (G_J8_copyOf D l as h0 hF o)), covers z pc = false := hpN
def f_J8_copyOf (x0 : Nat) (x1 : Int32) (h : AH) : Option (Nat × AH) :=
  bd (aLn h x0) fun v1 =>
  if x1 = v1 then (
    none
  ) else (
    bd2 (nwA h 3 x1) fun a2 h3 =>
    bd (aLn h3 x0) fun v4 =>
    bd2 (f_J15_min v4 x1 h3) fun r5 h6 =>
    bd (cpI h6 3 x0 (0 : Int32) a2 (0 : Int32) r5) fun h8 =>
    some (a2, h8)
  )
theorem v_J8_copyOf (D : va_G) (l : Launch) (hl : l.stackTraces = false) (as : List Value) (h0 : AH) {r : Nat} {hF : AH} (x0 : Nat) (x1 : Int32) (h : AH) (e : f_J8_copyOf x0 x1 h = some (r, hF)) : V (G_J8_copyOf D l as h0 hF (oR r)) h 0 [(0, .ref x0), (1, .int x1)] [] := by
  unfold f_J8_copyOf at e
  refine v_iload_n (pc' := 1) hc_J8_copyOf dJ8_copyOf_0 rfl rfl 1 rfl ?_
  refine v_aload_n (pc' := 2) hc_J8_copyOf dJ8_copyOf_1 rfl rfl 0 rfl ?_
  refine v_alen (pc' := 3) hc_J8_copyOf dJ8_copyOf_2 rfl e (fun v1 _ e => ?_)
  refine v_icmp_ne (pt := 14) (pf := 6) hc_J8_copyOf dJ8_copyOf_3 rfl rfl e (fun _ e => ?_) (fun _ e => ?_)
  · refine v_aload_n (pc' := 7) hc_J8_copyOf dJ8_copyOf_6 rfl rfl 0 rfl ?_
    exact nomatch e
  · refine v_iload_n (pc' := 15) hc_J8_copyOf dJ8_copyOf_14 rfl rfl 1 rfl ?_
    refine v_newa (pc' := 17) (k := 3) (at0 := .byte) hc_J8_copyOf rfl (by decide) q233 dJ8_copyOf_15 rfl e (fun a2 h3 _ e => ?_)
    refine v_astore_n (pc' := 18) (lv' := [(2, .ref a2), (0, .ref x0), (1, .int x1)]) hc_J8_copyOf dJ8_copyOf_17 rfl rfl (Nat.le_of_ble_eq_true rfl) rfl ?_
    refine v_aload_n (pc' := 19) hc_J8_copyOf dJ8_copyOf_18 rfl rfl 1 rfl ?_
    refine v_iconst (pc' := 20) (v := 0) hc_J8_copyOf dJ8_copyOf_19 rfl rfl ?_
    refine v_aload_n (pc' := 21) hc_J8_copyOf dJ8_copyOf_20 rfl rfl 0 rfl ?_
    refine v_iconst (pc' := 22) (v := 0) hc_J8_copyOf dJ8_copyOf_21 rfl rfl ?_
    refine v_aload_n (pc' := 23) hc_J8_copyOf dJ8_copyOf_22 rfl rfl 1 rfl ?_
    refine v_alen (pc' := 24) hc_J8_copyOf dJ8_copyOf_23 rfl e (fun v4 _ e => ?_)
    refine v_iload_n (pc' := 25) hc_J8_copyOf dJ8_copyOf_24 rfl rfl 2 rfl ?_
    obtain ⟨r5, h6, e7, e⟩ := bd2_of e
    refine k_S (pc' := 28) (n := 2) hc_J8_copyOf ho_J8_copyOf (w_J15_min D l hl v4 x1 h3 e7) (wA_l q632) q633 q95 q634 hy_11 ⟨Nat.le_of_ble_eq_true rfl, Nat.le_of_ble_eq_true rfl⟩ rfl rfl (Nat.le_of_ble_eq_true rfl) dJ8_copyOf_25 rfl (kS ?_) kN
    refine v_cpI (pc' := 31) (k := 3) hc_J8_copyOf ho_J8_copyOf q635 q637 q636 q96 ⟨Nat.le_of_ble_eq_true rfl, Nat.le_of_ble_eq_true rfl⟩ dJ8_copyOf_28 rfl e (fun h8 _ e => ?_)
    refine v_aload_n (pc' := 32) hc_J8_copyOf dJ8_copyOf_31 rfl rfl 0 rfl ?_
    obtain ⟨rfl, rfl⟩ := ret_of e
    exact v_aret hc_J8_copyOf rfl (Or.inr ⟨_, rfl⟩) (Or.inr ⟨_, rfl⟩) dJ8_copyOf_32 rfl rfl
theorem w_J8_copyOf (D : va_G) (l : Launch) (hl : l.stackTraces = false) (x0 : Nat) (x1 : Int32) (h : AH) {r : Nat} {hF : AH} (e : f_J8_copyOf x0 x1 h = some (r, hF)) : MetV D l yJ8_copyOf (Cond.code yJ8_copyOf cJ8_copyOf 3 (Option.some (.array .byte))) 2 69 [.ref x0, .int x1] h hF (oR r) :=
  met_ofF (by decide +kernel) hl (Nat.le_of_ble_eq_true rfl) rfl (v_J8_copyOf D l hl [.ref x0, .int x1] h x0 x1 h e)
/-! java/lang/AbstractStringBuilder.ensureCapacityInternal(I)V  -/
abbrev G_J4_ensureCapacityInternal (D : va_G) (l : Launch) (as : List Value) (h0 hF : AH) (o : Out) : CT := (D, l, (yJ4_ensureCapacityInternal.cls, yJ4_ensureCapacityInternal, cJ4_ensureCapacityInternal, 3, (Option.none : Option FieldType), 4, 117, []), as, h0, hF, o)
theorem hc_J4_ensureCapacityInternal {D : va_G} {l : Launch} {as : List Value} {h0 hF : AH} {o : Out} : gC (G_J4_ensureCapacityInternal D l as h0 hF o) = cJ4_ensureCapacityInternal := rfl
theorem ho_J4_ensureCapacityInternal {D : va_G} {l : Launch} {as : List Value} {h0 hF : AH} {o : Out} : gO (G_J4_ensureCapacityInternal D l as h0 hF o) = "java/lang/AbstractStringBuilder" := rfl
theorem hp_J4_ensureCapacityInternal {D : va_G} {l : Launch} {as : List Value} {h0 hF : AH} {o : Out} (pc : Nat) : ∀ z ∈ tableOf (gHd (G_J4_ensureCapacityInternal D l as h0 hF o)), covers z pc = false := hpN
def f_J4_ensureCapacityInternal (x0 : Nat) (x1 : Int32) (h : AH) : Option (Unit × AH) :=
  bd (gtR h 18 x0 0) fun v1 =>
  bd (aLn h v1) fun v2 =>
  bd (gtI h 18 x0 1) fun v3 =>
  if (x1 - (v2 >>> (v3 &&& 31))) ≤ 0 then (
    some ((), h)
  ) else (
    bd (gtR h 18 x0 0) fun v4 =>
    gd (isC h 18 x0) <|
    bd2 (f_J4_newCapacity x0 x1 h) fun r6 h7 =>
    bd (gtI h7 18 x0 1) fun v9 =>
    bd2 (f_J8_copyOf v4 (r6 <<< (v9 &&& 31)) h7) fun r10 h11 =>
    bd (stF h11 18 x0 0 (.ref r10)) fun h13 =>
    some ((), h13)
  )
theorem v_J4_ensureCapacityInternal (D : va_G) (l : Launch) (hl : l.stackTraces = false) (as : List Value) (h0 : AH) {r : Unit} {hF : AH} (x0 : Nat) (x1 : Int32) (h : AH) (e : f_J4_ensureCapacityInternal x0 x1 h = some (r, hF)) : V (G_J4_ensureCapacityInternal D l as h0 hF (oV r)) h 0 [(0, .ref x0), (1, .int x1)] [] := by
  unfold f_J4_ensureCapacityInternal at e
  refine v_aload_n (pc' := 1) hc_J4_ensureCapacityInternal dJ4_ensureCapacityInternal_0 rfl rfl 0 rfl ?_
  refine v_gfR (pc' := 4) hc_J4_ensureCapacityInternal ho_J4_ensureCapacityInternal KJ5 0 (Nat.le_of_ble_eq_true rfl) q219 (Or.inl rfl) dJ4_ensureCapacityInternal_1 rfl e (fun v1 _ e => ?_)
  refine v_alen (pc' := 5) hc_J4_ensureCapacityInternal dJ4_ensureCapacityInternal_4 rfl e (fun v2 _ e => ?_)
  refine v_aload_n (pc' := 6) hc_J4_ensureCapacityInternal dJ4_ensureCapacityInternal_5 rfl rfl 0 rfl ?_
  refine v_gfI (pc' := 9) hc_J4_ensureCapacityInternal ho_J4_ensureCapacityInternal KJ5 1 (Nat.le_of_ble_eq_true rfl) q220 (Or.inl rfl) dJ4_ensureCapacityInternal_6 rfl e (fun v3 _ e => ?_)
  refine v_ishr (pc' := 10) hc_J4_ensureCapacityInternal dJ4_ensureCapacityInternal_9 rfl ?_
  refine v_istore_n (pc' := 11) (lv' := [(2, .int (v2 >>> (v3 &&& 31))), (0, .ref x0), (1, .int x1)]) hc_J4_ensureCapacityInternal dJ4_ensureCapacityInternal_10 rfl rfl (Nat.le_of_ble_eq_true rfl) rfl ?_
  refine v_iload_n (pc' := 12) hc_J4_ensureCapacityInternal dJ4_ensureCapacityInternal_11 rfl rfl 2 rfl ?_
  refine v_iload_n (pc' := 13) hc_J4_ensureCapacityInternal dJ4_ensureCapacityInternal_12 rfl rfl 0 rfl ?_
  refine v_isub (pc' := 14) hc_J4_ensureCapacityInternal dJ4_ensureCapacityInternal_13 rfl ?_
  refine v_if_le (pt := 38) (pf := 17) hc_J4_ensureCapacityInternal dJ4_ensureCapacityInternal_14 rfl rfl e (fun _ e => ?_) (fun _ e => ?_)
  · obtain ⟨rfl, rfl⟩ := ret_of e
    exact v_ret hc_J4_ensureCapacityInternal rfl dJ4_ensureCapacityInternal_38 rfl rfl
  · refine v_aload_n (pc' := 18) hc_J4_ensureCapacityInternal dJ4_ensureCapacityInternal_17 rfl rfl 1 rfl ?_
    refine v_aload_n (pc' := 19) hc_J4_ensureCapacityInternal dJ4_ensureCapacityInternal_18 rfl rfl 1 rfl ?_
    refine v_gfR (pc' := 22) hc_J4_ensureCapacityInternal ho_J4_ensureCapacityInternal KJ5 0 (Nat.le_of_ble_eq_true rfl) q219 (Or.inl rfl) dJ4_ensureCapacityInternal_19 rfl e (fun v4 _ e => ?_)
    refine v_aload_n (pc' := 23) hc_J4_ensureCapacityInternal dJ4_ensureCapacityInternal_22 rfl rfl 1 rfl ?_
    refine v_iload_n (pc' := 24) hc_J4_ensureCapacityInternal dJ4_ensureCapacityInternal_23 rfl rfl 2 rfl ?_
    obtain ⟨c5, e⟩ := gd_of e
    obtain ⟨r6, h7, e8, e⟩ := bd2_of e
    refine k_V (pc' := 27) (ci := 18) (n := 1) hc_J4_ensureCapacityInternal ho_J4_ensureCapacityInternal rfl c5 (w_J4_newCapacity D l hl x0 x1 h e8) (wA_l q607) q609 qxp2 q81 q610 hy_224 ⟨Nat.le_of_ble_eq_true rfl, Nat.le_of_ble_eq_true rfl⟩ rfl rfl (Nat.le_of_ble_eq_true rfl) dJ4_ensureCapacityInternal_24 rfl (kS ?_) kN
    refine v_aload_n (pc' := 28) hc_J4_ensureCapacityInternal dJ4_ensureCapacityInternal_27 rfl rfl 1 rfl ?_
    refine v_gfI (pc' := 31) hc_J4_ensureCapacityInternal ho_J4_ensureCapacityInternal KJ5 1 (Nat.le_of_ble_eq_true rfl) q220 (Or.inl rfl) dJ4_ensureCapacityInternal_28 rfl e (fun v9 _ e => ?_)
    refine v_ishl (pc' := 32) hc_J4_ensureCapacityInternal dJ4_ensureCapacityInternal_31 rfl ?_
    obtain ⟨r10, h11, e12, e⟩ := bd2_of e
    refine k_S (pc' := 35) (n := 2) hc_J4_ensureCapacityInternal ho_J4_ensureCapacityInternal (w_J8_copyOf D l hl v4 (r6 <<< (v9 &&& 31)) h7 e12) (wA_l q622) q623 q87 q624 hy_225 ⟨Nat.le_of_ble_eq_true rfl, Nat.le_of_ble_eq_true rfl⟩ rfl rfl (Nat.le_of_ble_eq_true rfl) dJ4_ensureCapacityInternal_32 rfl (kS ?_) kN
    refine v_pf (pc' := 38) hc_J4_ensureCapacityInternal ho_J4_ensureCapacityInternal KJ5 0 (Nat.le_of_ble_eq_true rfl) q219 (Or.inl rfl) rfl dJ4_ensureCapacityInternal_35 rfl rfl rfl e (fun h13 _ e => ?_)
    obtain ⟨rfl, rfl⟩ := ret_of e
    exact v_ret hc_J4_ensureCapacityInternal rfl dJ4_ensureCapacityInternal_38 rfl rfl
theorem w_J4_ensureCapacityInternal (D : va_G) (l : Launch) (hl : l.stackTraces = false) (x0 : Nat) (x1 : Int32) (h : AH) {r : Unit} {hF : AH} (e : f_J4_ensureCapacityInternal x0 x1 h = some (r, hF)) : MetV D l yJ4_ensureCapacityInternal (Cond.code yJ4_ensureCapacityInternal cJ4_ensureCapacityInternal 3 (Option.none : Option FieldType)) 4 117 [.ref x0, .int x1] h hF (oV r) :=
  met_ofF (by decide +kernel) hl (Nat.le_of_ble_eq_true rfl) rfl (v_J4_ensureCapacityInternal D l hl [.ref x0, .int x1] h x0 x1 h e)
/-! java/lang/AbstractStringBuilder.isLatin1()Z  -/
abbrev G_J4_isLatin1 (D : va_G) (l : Launch) (as : List Value) (h0 hF : AH) (o : Out) : CT := (D, l, (yJ4_isLatin1.cls, yJ4_isLatin1, cJ4_isLatin1, 1, (Option.some .boolean), 1, 48, []), as, h0, hF, o)
theorem hc_J4_isLatin1 {D : va_G} {l : Launch} {as : List Value} {h0 hF : AH} {o : Out} : gC (G_J4_isLatin1 D l as h0 hF o) = cJ4_isLatin1 := rfl
theorem ho_J4_isLatin1 {D : va_G} {l : Launch} {as : List Value} {h0 hF : AH} {o : Out} : gO (G_J4_isLatin1 D l as h0 hF o) = "java/lang/AbstractStringBuilder" := rfl
theorem hp_J4_isLatin1 {D : va_G} {l : Launch} {as : List Value} {h0 hF : AH} {o : Out} (pc : Nat) : ∀ z ∈ tableOf (gHd (G_J4_isLatin1 D l as h0 hF o)), covers z pc = false := hpN
def f_J4_isLatin1 (x0 : Nat) (h : AH) : Option (Int32 × AH) :=
  bd (gtI h 18 x0 1) fun v1 =>
  if v1 = 0 then (
    some ((1 : Int32), h)
  ) else (
    some ((0 : Int32), h)
  )
theorem v_J4_isLatin1 (D : va_G) (l : Launch) (hl : l.stackTraces = false) (as : List Value) (h0 : AH) {r : Int32} {hF : AH} (x0 : Nat) (h : AH) (e : f_J4_isLatin1 x0 h = some (r, hF)) : V (G_J4_isLatin1 D l as h0 hF (oI r)) h 0 [(0, .ref x0)] [] := by
  unfold f_J4_isLatin1 at e
  refine v_getsI (pc' := 3) (x := 1) hc_J4_isLatin1 ho_J4_isLatin1 (by decide +kernel) q210 dJ4_isLatin1_0 rfl ?_
  refine v_if_eqF (pt := 17) (pf := 6) hc_J4_isLatin1 dJ4_isLatin1_3 rfl rfl (by decide) ?_
  refine v_aload_n (pc' := 7) hc_J4_isLatin1 dJ4_isLatin1_6 rfl rfl 0 rfl ?_
  refine v_gfI (pc' := 10) hc_J4_isLatin1 ho_J4_isLatin1 KJ5 1 (Nat.le_of_ble_eq_true rfl) q220 (Or.inl rfl) dJ4_isLatin1_7 rfl e (fun v1 _ e => ?_)
  refine v_if_ne (pt := 17) (pf := 13) hc_J4_isLatin1 dJ4_isLatin1_10 rfl rfl e (fun _ e => ?_) (fun _ e => ?_)
  · refine v_iconst (pc' := 14) (v := 1) hc_J4_isLatin1 dJ4_isLatin1_13 rfl rfl ?_
    refine v_goto (pt := 18) hc_J4_isLatin1 dJ4_isLatin1_14 rfl ?_
    obtain ⟨rfl, rfl⟩ := ret_of e
    exact v_zret hc_J4_isLatin1 rfl (ft := .boolean) rfl dJ4_isLatin1_18 rfl rfl
  · refine v_iconst (pc' := 18) (v := 0) hc_J4_isLatin1 dJ4_isLatin1_17 rfl rfl ?_
    obtain ⟨rfl, rfl⟩ := ret_of e
    exact v_zret hc_J4_isLatin1 rfl (ft := .boolean) rfl dJ4_isLatin1_18 rfl rfl
theorem w_J4_isLatin1 (D : va_G) (l : Launch) (hl : l.stackTraces = false) (x0 : Nat) (h : AH) {r : Int32} {hF : AH} (e : f_J4_isLatin1 x0 h = some (r, hF)) : MetV D l yJ4_isLatin1 (Cond.code yJ4_isLatin1 cJ4_isLatin1 1 (Option.some .boolean)) 1 48 [.ref x0] h hF (oI r) :=
  met_ofF (by decide +kernel) hl (Nat.le_of_ble_eq_true rfl) rfl (v_J4_isLatin1 D l hl [.ref x0] h x0 h e)
/-! java/lang/Integer.getChars(II[B)I  -/
abbrev G_J13_getChars (D : va_G) (l : Launch) (as : List Value) (h0 hF : AH) (o : Out) : CT := (D, l, (yJ13_getChars.cls, yJ13_getChars, cJ13_getChars, 7, (Option.some .int), 1, 48, []), as, h0, hF, o)
theorem hc_J13_getChars {D : va_G} {l : Launch} {as : List Value} {h0 hF : AH} {o : Out} : gC (G_J13_getChars D l as h0 hF o) = cJ13_getChars := rfl
theorem ho_J13_getChars {D : va_G} {l : Launch} {as : List Value} {h0 hF : AH} {o : Out} : gO (G_J13_getChars D l as h0 hF o) = "java/lang/Integer" := rfl
theorem hp_J13_getChars {D : va_G} {l : Launch} {as : List Value} {h0 hF : AH} {o : Out} (pc : Nat) : ∀ z ∈ tableOf (gHd (G_J13_getChars D l as h0 hF o)), covers z pc = false := hpN
def f_J13_getChars_j104 (x2 : Nat) (x5 : Int32) (x6 : Int32) (h : AH) : Option (Int32 × AH) :=
  if x6 = 0 then (
    some (x5, h)
  ) else (
    bd (stB h x2 (x5 + (-1)) (45 : Int32)) fun h1 =>
    some ((x5 + (-1)), h1)
  )
theorem w_J13_getChars_j104 (D : va_G) (l : Launch) (hl : l.stackTraces = false) (as : List Value) (h0 : AH) {r : Int32} {hF : AH} (x2 : Nat) (x5 : Int32) (x6 : Int32) (h : AH) (e : f_J13_getChars_j104 x2 x5 x6 h = some (r, hF)) : V (G_J13_getChars D l as h0 hF (oI r)) h 104 [(2, .ref x2), (5, .int x5), (6, .int x6)] [] := by
  unfold f_J13_getChars_j104 at e
  refine v_iload (pc' := 106) hc_J13_getChars dJ13_getChars_104 rfl 2 rfl ?_
  refine v_if_eq (pt := 118) (pf := 109) hc_J13_getChars dJ13_getChars_106 rfl rfl e (fun _ e => ?_) (fun _ e => ?_)
  · refine v_iload (pc' := 120) hc_J13_getChars dJ13_getChars_118 rfl 1 rfl ?_
    obtain ⟨rfl, rfl⟩ := ret_of e
    exact v_iret hc_J13_getChars rfl dJ13_getChars_120 rfl rfl
  · refine v_aload_n (pc' := 110) hc_J13_getChars dJ13_getChars_109 rfl rfl 0 rfl ?_
    refine v_iinc (pc' := 113) (lv' := [(5, .int (x5 + (-1))), (2, .ref x2), (6, .int x6)]) (v := x5 + (-1)) hc_J13_getChars dJ13_getChars_110 rfl 1 rfl rfl (Nat.le_of_ble_eq_true rfl) rfl ?_
    refine v_iload (pc' := 115) hc_J13_getChars dJ13_getChars_113 rfl 0 rfl ?_
    refine v_bipush (pc' := 117) (v := 45) hc_J13_getChars dJ13_getChars_115 rfl rfl ?_
    refine v_bast (pc' := 118) hc_J13_getChars dJ13_getChars_117 rfl e (fun h1 _ e => ?_)
    refine v_iload (pc' := 120) hc_J13_getChars dJ13_getChars_118 rfl 0 rfl ?_
    obtain ⟨rfl, rfl⟩ := ret_of e
    exact v_iret hc_J13_getChars rfl dJ13_getChars_120 rfl rfl
def fb_J13_getChars_l22 (rec : Int32 → Nat → Int32 → Int32 → AH → Option (Int32 × AH)) (x0 : Int32) (x2 : Nat) (x5 : Int32) (x6 : Int32) (h : AH) : Option (Int32 × AH) :=
  if (-100 : Int32) < x0 then (
    bd (aE h 1) fun v1 =>
    bd (ldI h 3 v1 (-x0)) fun v2 =>
    bd (stB h x2 (x5 + (-1)) v2) fun h3 =>
    if (-9 : Int32) ≤ x0 then (
      f_J13_getChars_j104 x2 (x5 + (-1)) x6 h3
    ) else (
      bd (aE h3 2) fun v4 =>
      bd (ldI h3 3 v4 (-x0)) fun v5 =>
      bd (stB h3 x2 ((x5 + (-1)) + (-1)) v5) fun h6 =>
      f_J13_getChars_j104 x2 ((x5 + (-1)) + (-1)) x6 h6
    )
  ) else (
    bd (aE h 1) fun v7 =>
    bd (ldI h 3 v7 (((x0 / (100 : Int32)) * (100 : Int32)) - x0)) fun v8 =>
    bd (stB h x2 (x5 + (-1)) v8) fun h9 =>
    bd (aE h9 2) fun v10 =>
    bd (ldI h9 3 v10 (((x0 / (100 : Int32)) * (100 : Int32)) - x0)) fun v11 =>
    bd (stB h9 x2 ((x5 + (-1)) + (-1)) v11) fun h12 =>
    rec (x0 / (100 : Int32)) x2 ((x5 + (-1)) + (-1)) x6 h12
  )
def f_J13_getChars_l22 : Nat → Int32 → Nat → Int32 → Int32 → AH → Option (Int32 × AH)
  | 0 => fun _ _ _ _ _ => none
  | n + 1 => fb_J13_getChars_l22 (f_J13_getChars_l22 n) 
theorem w_J13_getChars_l22 (D : va_G) (l : Launch) (hl : l.stackTraces = false) (as : List Value) (h0 : AH) {r : Int32} {hF : AH} : ∀ (n : Nat) (x0 : Int32) (x2 : Nat) (x5 : Int32) (x6 : Int32) (h : AH), f_J13_getChars_l22 n x0 x2 x5 x6 h = some (r, hF) → V (G_J13_getChars D l as h0 hF (oI r)) h 22 [(0, .int x0), (2, .ref x2), (5, .int x5), (6, .int x6)] [] := by
  intro n; induction n with
  | zero => intro x0 x2 x5 x6 h e; exact absurd (show (none : Option (Int32 × AH)) = some _ from e) (fun z => nomatch z)
  | succ n IH =>
    intro x0 x2 x5 x6 h e
    have e : fb_J13_getChars_l22 (f_J13_getChars_l22 n) x0 x2 x5 x6 h = some (r, hF) := e
    unfold fb_J13_getChars_l22 at e
    refine v_iload_n (pc' := 23) hc_J13_getChars dJ13_getChars_22 rfl rfl 0 rfl ?_
    refine v_bipush (pc' := 25) (v := (-100)) hc_J13_getChars dJ13_getChars_23 rfl rfl ?_
    refine v_icmp_gt (pt := 72) (pf := 28) hc_J13_getChars dJ13_getChars_25 rfl rfl e (fun _ e => ?_) (fun _ e => ?_)
    · refine v_aload_n (pc' := 73) hc_J13_getChars dJ13_getChars_72 rfl rfl 1 rfl ?_
      refine v_iinc (pc' := 76) (lv' := [(5, .int (x5 + (-1))), (0, .int x0), (2, .ref x2), (6, .int x6)]) (v := x5 + (-1)) hc_J13_getChars dJ13_getChars_73 rfl 2 rfl rfl (Nat.le_of_ble_eq_true rfl) rfl ?_
      refine v_iload (pc' := 78) hc_J13_getChars dJ13_getChars_76 rfl 0 rfl ?_
      refine v_getsN (pc' := 81) (j := 1) hc_J13_getChars ho_J13_getChars (by decide +kernel) q646 dJ13_getChars_78 rfl e (fun v1 _ e => ?_)
      refine v_iload_n (pc' := 82) hc_J13_getChars dJ13_getChars_81 rfl rfl 1 rfl ?_
      refine v_ineg (pc' := 83) hc_J13_getChars dJ13_getChars_82 rfl ?_
      refine v_bald (pc' := 84) hc_J13_getChars dJ13_getChars_83 rfl e (fun v2 _ e => ?_)
      refine v_bast (pc' := 85) hc_J13_getChars dJ13_getChars_84 rfl e (fun h3 _ e => ?_)
      refine v_iload_n (pc' := 86) hc_J13_getChars dJ13_getChars_85 rfl rfl 1 rfl ?_
      refine v_bipush (pc' := 88) (v := (-9)) hc_J13_getChars dJ13_getChars_86 rfl rfl ?_
      refine v_icmp_ge (pt := 104) (pf := 91) hc_J13_getChars dJ13_getChars_88 rfl rfl e (fun _ e => ?_) (fun _ e => ?_)
      · refine v_pick [2, 0, 3] rfl ?_
        exact w_J13_getChars_j104 D l hl as h0 x2 (x5 + (-1)) x6 h3 e
      · refine v_aload_n (pc' := 92) hc_J13_getChars dJ13_getChars_91 rfl rfl 2 rfl ?_
        refine v_iinc (pc' := 95) (lv' := [(5, .int ((x5 + (-1)) + (-1))), (0, .int x0), (2, .ref x2), (6, .int x6)]) (v := (x5 + (-1)) + (-1)) hc_J13_getChars dJ13_getChars_92 rfl 0 rfl rfl (Nat.le_of_ble_eq_true rfl) rfl ?_
        refine v_iload (pc' := 97) hc_J13_getChars dJ13_getChars_95 rfl 0 rfl ?_
        refine v_getsN (pc' := 100) (j := 2) hc_J13_getChars ho_J13_getChars (by decide +kernel) q648 dJ13_getChars_97 rfl e (fun v4 _ e => ?_)
        refine v_iload_n (pc' := 101) hc_J13_getChars dJ13_getChars_100 rfl rfl 1 rfl ?_
        refine v_ineg (pc' := 102) hc_J13_getChars dJ13_getChars_101 rfl ?_
        refine v_bald (pc' := 103) hc_J13_getChars dJ13_getChars_102 rfl e (fun v5 _ e => ?_)
        refine v_bast (pc' := 104) hc_J13_getChars dJ13_getChars_103 rfl e (fun h6 _ e => ?_)
        refine v_pick [2, 0, 3] rfl ?_
        exact w_J13_getChars_j104 D l hl as h0 x2 ((x5 + (-1)) + (-1)) x6 h6 e
    · refine v_iload_n (pc' := 29) hc_J13_getChars dJ13_getChars_28 rfl rfl 0 rfl ?_
      refine v_bipush (pc' := 31) (v := 100) hc_J13_getChars dJ13_getChars_29 rfl rfl ?_
      refine v_idiv (pc' := 32) hc_J13_getChars dJ13_getChars_31 rfl (by decide) ?_
      refine v_istore_n (pc' := 33) (lv' := [(3, .int (x0 / (100 : Int32))), (0, .int x0), (2, .ref x2), (5, .int x5), (6, .int x6)]) hc_J13_getChars dJ13_getChars_32 rfl rfl (Nat.le_of_ble_eq_true rfl) rfl ?_
      refine v_iload_n (pc' := 34) hc_J13_getChars dJ13_getChars_33 rfl rfl 0 rfl ?_
      refine v_bipush (pc' := 36) (v := 100) hc_J13_getChars dJ13_getChars_34 rfl rfl ?_
      refine v_imul (pc' := 37) hc_J13_getChars dJ13_getChars_36 rfl ?_
      refine v_iload_n (pc' := 38) hc_J13_getChars dJ13_getChars_37 rfl rfl 1 rfl ?_
      refine v_isub (pc' := 39) hc_J13_getChars dJ13_getChars_38 rfl ?_
      refine v_istore (pc' := 41) (lv' := [(4, .int (((x0 / (100 : Int32)) * (100 : Int32)) - x0)), (3, .int (x0 / (100 : Int32))), (0, .int x0), (2, .ref x2), (5, .int x5), (6, .int x6)]) hc_J13_getChars dJ13_getChars_39 rfl (Nat.le_of_ble_eq_true rfl) rfl ?_
      refine v_iload_n (pc' := 42) hc_J13_getChars dJ13_getChars_41 rfl rfl 1 rfl ?_
      refine v_istore_n (pc' := 43) (lv' := [(0, .int (x0 / (100 : Int32))), (4, .int (((x0 / (100 : Int32)) * (100 : Int32)) - x0)), (3, .int (x0 / (100 : Int32))), (2, .ref x2), (5, .int x5), (6, .int x6)]) hc_J13_getChars dJ13_getChars_42 rfl rfl (Nat.le_of_ble_eq_true rfl) rfl ?_
      refine v_aload_n (pc' := 44) hc_J13_getChars dJ13_getChars_43 rfl rfl 3 rfl ?_
      refine v_iinc (pc' := 47) (lv' := [(5, .int (x5 + (-1))), (0, .int (x0 / (100 : Int32))), (4, .int (((x0 / (100 : Int32)) * (100 : Int32)) - x0)), (3, .int (x0 / (100 : Int32))), (2, .ref x2), (6, .int x6)]) (v := x5 + (-1)) hc_J13_getChars dJ13_getChars_44 rfl 4 rfl rfl (Nat.le_of_ble_eq_true rfl) rfl ?_
      refine v_iload (pc' := 49) hc_J13_getChars dJ13_getChars_47 rfl 0 rfl ?_
      refine v_getsN (pc' := 52) (j := 1) hc_J13_getChars ho_J13_getChars (by decide +kernel) q646 dJ13_getChars_49 rfl e (fun v7 _ e => ?_)
      refine v_iload (pc' := 54) hc_J13_getChars dJ13_getChars_52 rfl 2 rfl ?_
      refine v_bald (pc' := 55) hc_J13_getChars dJ13_getChars_54 rfl e (fun v8 _ e => ?_)
      refine v_bast (pc' := 56) hc_J13_getChars dJ13_getChars_55 rfl e (fun h9 _ e => ?_)
      refine v_aload_n (pc' := 57) hc_J13_getChars dJ13_getChars_56 rfl rfl 4 rfl ?_
      refine v_iinc (pc' := 60) (lv' := [(5, .int ((x5 + (-1)) + (-1))), (0, .int (x0 / (100 : Int32))), (4, .int (((x0 / (100 : Int32)) * (100 : Int32)) - x0)), (3, .int (x0 / (100 : Int32))), (2, .ref x2), (6, .int x6)]) (v := (x5 + (-1)) + (-1)) hc_J13_getChars dJ13_getChars_57 rfl 0 rfl rfl (Nat.le_of_ble_eq_true rfl) rfl ?_
      refine v_iload (pc' := 62) hc_J13_getChars dJ13_getChars_60 rfl 0 rfl ?_
      refine v_getsN (pc' := 65) (j := 2) hc_J13_getChars ho_J13_getChars (by decide +kernel) q648 dJ13_getChars_62 rfl e (fun v10 _ e => ?_)
      refine v_iload (pc' := 67) hc_J13_getChars dJ13_getChars_65 rfl 2 rfl ?_
      refine v_bald (pc' := 68) hc_J13_getChars dJ13_getChars_67 rfl e (fun v11 _ e => ?_)
      refine v_bast (pc' := 69) hc_J13_getChars dJ13_getChars_68 rfl e (fun h12 _ e => ?_)
      refine v_goto (pt := 22) hc_J13_getChars dJ13_getChars_69 rfl ?_
      refine v_pick [1, 4, 0, 5] rfl ?_
      exact IH (x0 / (100 : Int32)) x2 ((x5 + (-1)) + (-1)) x6 h12 e
def f_J13_getChars (x0 : Int32) (x1 : Int32) (x2 : Nat) (h : AH) : Option (Int32 × AH) :=
  if 0 ≤ x0 then (
    f_J13_getChars_l22 NN (-x0) x2 x1 (0 : Int32) h
  ) else (
    f_J13_getChars_l22 NN x0 x2 x1 (1 : Int32) h
  )
theorem v_J13_getChars (D : va_G) (l : Launch) (hl : l.stackTraces = false) (as : List Value) (h0 : AH) {r : Int32} {hF : AH} (x0 : Int32) (x1 : Int32) (x2 : Nat) (h : AH) (e : f_J13_getChars x0 x1 x2 h = some (r, hF)) : V (G_J13_getChars D l as h0 hF (oI r)) h 0 [(0, .int x0), (1, .int x1), (2, .ref x2)] [] := by
  unfold f_J13_getChars at e
  refine v_iload_n (pc' := 1) hc_J13_getChars dJ13_getChars_0 rfl rfl 1 rfl ?_
  refine v_istore (pc' := 3) (lv' := [(5, .int x1), (0, .int x0), (1, .int x1), (2, .ref x2)]) hc_J13_getChars dJ13_getChars_1 rfl (Nat.le_of_ble_eq_true rfl) rfl ?_
  refine v_iload_n (pc' := 4) hc_J13_getChars dJ13_getChars_3 rfl rfl 1 rfl ?_
  refine v_if_ge (pt := 11) (pf := 7) hc_J13_getChars dJ13_getChars_4 rfl rfl e (fun _ e => ?_) (fun _ e => ?_)
  · refine v_iconst (pc' := 12) (v := 0) hc_J13_getChars dJ13_getChars_11 rfl rfl ?_
    refine v_istore (pc' := 14) (lv' := [(6, .int (0 : Int32)), (5, .int x1), (0, .int x0), (1, .int x1), (2, .ref x2)]) hc_J13_getChars dJ13_getChars_12 rfl (Nat.le_of_ble_eq_true rfl) rfl ?_
    refine v_iload (pc' := 16) hc_J13_getChars dJ13_getChars_14 rfl 0 rfl ?_
    refine v_if_neF (pt := 22) (pf := 19) hc_J13_getChars dJ13_getChars_16 rfl rfl (by decide) ?_
    refine v_iload_n (pc' := 20) hc_J13_getChars dJ13_getChars_19 rfl rfl 2 rfl ?_
    refine v_ineg (pc' := 21) hc_J13_getChars dJ13_getChars_20 rfl ?_
    refine v_istore_n (pc' := 22) (lv' := [(0, .int (-x0)), (6, .int (0 : Int32)), (5, .int x1), (1, .int x1), (2, .ref x2)]) hc_J13_getChars dJ13_getChars_21 rfl rfl (Nat.le_of_ble_eq_true rfl) rfl ?_
    refine v_pick [0, 4, 2, 1] rfl ?_
    exact w_J13_getChars_l22 D l hl as h0 NN (-x0) x2 x1 (0 : Int32) h e
  · refine v_iconst (pc' := 8) (v := 1) hc_J13_getChars dJ13_getChars_7 rfl rfl ?_
    refine v_goto (pt := 12) hc_J13_getChars dJ13_getChars_8 rfl ?_
    refine v_istore (pc' := 14) (lv' := [(6, .int (1 : Int32)), (5, .int x1), (0, .int x0), (1, .int x1), (2, .ref x2)]) hc_J13_getChars dJ13_getChars_12 rfl (Nat.le_of_ble_eq_true rfl) rfl ?_
    refine v_iload (pc' := 16) hc_J13_getChars dJ13_getChars_14 rfl 0 rfl ?_
    refine v_if_neT (pt := 22) hc_J13_getChars dJ13_getChars_16 rfl (by decide) ?_
    refine v_pick [2, 4, 1, 0] rfl ?_
    exact w_J13_getChars_l22 D l hl as h0 NN x0 x2 x1 (1 : Int32) h e
theorem w_J13_getChars (D : va_G) (l : Launch) (hl : l.stackTraces = false) (x0 : Int32) (x1 : Int32) (x2 : Nat) (h : AH) {r : Int32} {hF : AH} (e : f_J13_getChars x0 x1 x2 h = some (r, hF)) : MetV D l yJ13_getChars (Cond.code yJ13_getChars cJ13_getChars 7 (Option.some .int)) 1 48 [.int x0, .int x1, .ref x2] h hF (oI r) :=
  met_ofF (by decide +kernel) hl (Nat.le_of_ble_eq_true rfl) rfl (v_J13_getChars D l hl [.int x0, .int x1, .ref x2] h x0 x1 x2 h e)
/-! java/lang/AbstractStringBuilder.append(I)Ljava/lang/AbstractStringBuilder;  -/
abbrev G_J4_append (D : va_G) (l : Launch) (as : List Value) (h0 hF : AH) (o : Out) : CT := (D, l, (yJ4_append.cls, yJ4_append, cJ4_append, 4, (Option.some (.object "java/lang/AbstractStringBuilder")), 5, 139, []), as, h0, hF, o)
theorem hc_J4_append {D : va_G} {l : Launch} {as : List Value} {h0 hF : AH} {o : Out} : gC (G_J4_append D l as h0 hF o) = cJ4_append := rfl
theorem ho_J4_append {D : va_G} {l : Launch} {as : List Value} {h0 hF : AH} {o : Out} : gO (G_J4_append D l as h0 hF o) = "java/lang/AbstractStringBuilder" := rfl
theorem hp_J4_append {D : va_G} {l : Launch} {as : List Value} {h0 hF : AH} {o : Out} (pc : Nat) : ∀ z ∈ tableOf (gHd (G_J4_append D l as h0 hF o)), covers z pc = false := hpN
def f_J4_append (x0 : Nat) (x1 : Int32) (h : AH) : Option (Nat × AH) :=
  bd (gtI h 18 x0 3) fun v1 =>
  bd2 (f_J13_stringSize x1 h) fun r2 h3 =>
  gd (isC h3 18 x0) <|
  bd2 (f_J4_ensureCapacityInternal x0 (v1 + r2) h3) fun r6 h7 =>
  gd (isC h7 18 x0) <|
  bd2 (f_J4_isLatin1 x0 h7) fun r10 h11 =>
  if r10 = 0 then (
    bd (gtR h11 18 x0 0) fun v13 =>
    none
  ) else (
    bd (gtR h11 18 x0 0) fun v14 =>
    bd2 (f_J13_getChars x1 (v1 + r2) v14 h11) fun r15 h16 =>
    bd (stF h16 18 x0 3 (.int (v1 + r2))) fun h18 =>
    some (x0, h18)
  )
theorem v_J4_append (D : va_G) (l : Launch) (hl : l.stackTraces = false) (as : List Value) (h0 : AH) {r : Nat} {hF : AH} (x0 : Nat) (x1 : Int32) (h : AH) (e : f_J4_append x0 x1 h = some (r, hF)) : V (G_J4_append D l as h0 hF (oR r)) h 0 [(0, .ref x0), (1, .int x1)] [] := by
  unfold f_J4_append at e
  refine v_aload_n (pc' := 1) hc_J4_append dJ4_append_0 rfl rfl 0 rfl ?_
  refine v_gfI (pc' := 4) hc_J4_append ho_J4_append KJ5 3 (Nat.le_of_ble_eq_true rfl) q223 (Or.inl rfl) dJ4_append_1 rfl e (fun v1 _ e => ?_)
  refine v_istore_n (pc' := 5) (lv' := [(2, .int v1), (0, .ref x0), (1, .int x1)]) hc_J4_append dJ4_append_4 rfl rfl (Nat.le_of_ble_eq_true rfl) rfl ?_
  refine v_iload_n (pc' := 6) hc_J4_append dJ4_append_5 rfl rfl 0 rfl ?_
  refine v_iload_n (pc' := 7) hc_J4_append dJ4_append_6 rfl rfl 2 rfl ?_
  obtain ⟨r2, h3, e4, e⟩ := bd2_of e
  refine k_S (pc' := 10) (n := 1) hc_J4_append ho_J4_append (w_J13_stringSize D l hl x1 h e4) (wA_l q600) q601 q93 q602 hy_223 ⟨Nat.le_of_ble_eq_true rfl, Nat.le_of_ble_eq_true rfl⟩ rfl rfl (Nat.le_of_ble_eq_true rfl) dJ4_append_7 rfl (kS ?_) kN
  refine v_iadd (pc' := 11) hc_J4_append dJ4_append_10 rfl ?_
  refine v_istore_n (pc' := 12) (lv' := [(3, .int (v1 + r2)), (2, .int v1), (0, .ref x0), (1, .int x1)]) hc_J4_append dJ4_append_11 rfl rfl (Nat.le_of_ble_eq_true rfl) rfl ?_
  refine v_aload_n (pc' := 13) hc_J4_append dJ4_append_12 rfl rfl 2 rfl ?_
  refine v_iload_n (pc' := 14) hc_J4_append dJ4_append_13 rfl rfl 0 rfl ?_
  obtain ⟨c5, e⟩ := gd_of e
  obtain ⟨r6, h7, e8, e⟩ := bd2_of e
  refine k_V (pc' := 17) (ci := 18) (n := 1) hc_J4_append ho_J4_append rfl c5 (w_J4_ensureCapacityInternal D l hl x0 (v1 + r2) h3 e8) (wA_l q603) q605 qxp0 q81 q606 hy_226 ⟨Nat.le_of_ble_eq_true rfl, Nat.le_of_ble_eq_true rfl⟩ rfl rfl (Nat.le_of_ble_eq_true rfl) dJ4_append_14 rfl (kU ?_) kN
  refine v_aload_n (pc' := 18) hc_J4_append dJ4_append_17 rfl rfl 2 rfl ?_
  obtain ⟨c9, e⟩ := gd_of e
  obtain ⟨r10, h11, e12, e⟩ := bd2_of e
  refine k_V (pc' := 21) (ci := 18) (n := 0) hc_J4_append ho_J4_append rfl c9 (w_J4_isLatin1 D l hl x0 h7 e12) (wA_l q638) q639 (wA_l q641) q81 q642 hy_227 ⟨Nat.le_of_ble_eq_true rfl, Nat.le_of_ble_eq_true rfl⟩ rfl rfl (Nat.le_of_ble_eq_true rfl) dJ4_append_18 rfl (kS ?_) kN
  refine v_if_eq (pt := 37) (pf := 24) hc_J4_append dJ4_append_21 rfl rfl e (fun _ e => ?_) (fun _ e => ?_)
  · refine v_iload_n (pc' := 38) hc_J4_append dJ4_append_37 rfl rfl 3 rfl ?_
    refine v_iload_n (pc' := 39) hc_J4_append dJ4_append_38 rfl rfl 1 rfl ?_
    refine v_iload_n (pc' := 40) hc_J4_append dJ4_append_39 rfl rfl 0 rfl ?_
    refine v_aload_n (pc' := 41) hc_J4_append dJ4_append_40 rfl rfl 2 rfl ?_
    refine v_gfR (pc' := 44) hc_J4_append ho_J4_append KJ5 0 (Nat.le_of_ble_eq_true rfl) q219 (Or.inl rfl) dJ4_append_41 rfl e (fun v13 _ e => ?_)
    exact nomatch e
  · refine v_iload_n (pc' := 25) hc_J4_append dJ4_append_24 rfl rfl 3 rfl ?_
    refine v_iload_n (pc' := 26) hc_J4_append dJ4_append_25 rfl rfl 0 rfl ?_
    refine v_aload_n (pc' := 27) hc_J4_append dJ4_append_26 rfl rfl 2 rfl ?_
    refine v_gfR (pc' := 30) hc_J4_append ho_J4_append KJ5 0 (Nat.le_of_ble_eq_true rfl) q219 (Or.inl rfl) dJ4_append_27 rfl e (fun v14 _ e => ?_)
    obtain ⟨r15, h16, e17, e⟩ := bd2_of e
    refine k_S (pc' := 33) (n := 3) hc_J4_append ho_J4_append (w_J13_getChars D l hl x1 (v1 + r2) v14 h11 e17) (wA_l q643) q644 q93 q645 hy_228 ⟨Nat.le_of_ble_eq_true rfl, Nat.le_of_ble_eq_true rfl⟩ rfl rfl (Nat.le_of_ble_eq_true rfl) dJ4_append_30 rfl (kS ?_) kN
    refine v_pop (pc' := 34) hc_J4_append dJ4_append_33 rfl rfl ?_
    refine v_goto (pt := 48) hc_J4_append dJ4_append_34 rfl ?_
    refine v_aload_n (pc' := 49) hc_J4_append dJ4_append_48 rfl rfl 2 rfl ?_
    refine v_iload_n (pc' := 50) hc_J4_append dJ4_append_49 rfl rfl 0 rfl ?_
    refine v_pf (pc' := 53) hc_J4_append ho_J4_append KJ5 3 (Nat.le_of_ble_eq_true rfl) q223 (Or.inl rfl) rfl dJ4_append_50 rfl rfl rfl e (fun h18 _ e => ?_)
    refine v_aload_n (pc' := 54) hc_J4_append dJ4_append_53 rfl rfl 2 rfl ?_
    obtain ⟨rfl, rfl⟩ := ret_of e
    exact v_aret hc_J4_append rfl (Or.inl ⟨_, rfl⟩) (Or.inr ⟨_, rfl⟩) dJ4_append_54 rfl rfl
theorem w_J4_append (D : va_G) (l : Launch) (hl : l.stackTraces = false) (x0 : Nat) (x1 : Int32) (h : AH) {r : Nat} {hF : AH} (e : f_J4_append x0 x1 h = some (r, hF)) : MetV D l yJ4_append (Cond.code yJ4_append cJ4_append 4 (Option.some (.object "java/lang/AbstractStringBuilder"))) 5 139 [.ref x0, .int x1] h hF (oR r) :=
  met_ofF (by decide +kernel) hl (Nat.le_of_ble_eq_true rfl) rfl (v_J4_append D l hl [.ref x0, .int x1] h x0 x1 h e)
/-! java/lang/StringBuilder.append(I)Ljava/lang/StringBuilder;  -/
abbrev G_J5_append (D : va_G) (l : Launch) (as : List Value) (h0 hF : AH) (o : Out) : CT := (D, l, (yJ5_append.cls, yJ5_append, cJ5_append, 2, (Option.some (.object "java/lang/StringBuilder")), 6, 162, []), as, h0, hF, o)
theorem hc_J5_append {D : va_G} {l : Launch} {as : List Value} {h0 hF : AH} {o : Out} : gC (G_J5_append D l as h0 hF o) = cJ5_append := rfl
theorem ho_J5_append {D : va_G} {l : Launch} {as : List Value} {h0 hF : AH} {o : Out} : gO (G_J5_append D l as h0 hF o) = "java/lang/StringBuilder" := rfl
theorem hp_J5_append {D : va_G} {l : Launch} {as : List Value} {h0 hF : AH} {o : Out} (pc : Nat) : ∀ z ∈ tableOf (gHd (G_J5_append D l as h0 hF o)), covers z pc = false := hpN
def f_J5_append (x0 : Nat) (x1 : Int32) (h : AH) : Option (Nat × AH) :=
  gd (isC h 18 x0) <|
  bd2 (f_J4_append x0 x1 h) fun r2 h3 =>
  some (x0, h3)
theorem v_J5_append (D : va_G) (l : Launch) (hl : l.stackTraces = false) (as : List Value) (h0 : AH) {r : Nat} {hF : AH} (x0 : Nat) (x1 : Int32) (h : AH) (e : f_J5_append x0 x1 h = some (r, hF)) : V (G_J5_append D l as h0 hF (oR r)) h 0 [(0, .ref x0), (1, .int x1)] [] := by
  unfold f_J5_append at e
  refine v_aload_n (pc' := 1) hc_J5_append dJ5_append_0 rfl rfl 0 rfl ?_
  refine v_iload_n (pc' := 2) hc_J5_append dJ5_append_1 rfl rfl 1 rfl ?_
  obtain ⟨c1, e⟩ := gd_of e
  obtain ⟨r2, h3, e4, e⟩ := bd2_of e
  refine k_SU (pc' := 5) (x := ⟨"java/lang/AbstractStringBuilder", "append", "(I)Ljava/lang/AbstractStringBuilder;"⟩) (ci := 18) (n := 1) hc_J5_append ho_J5_append rfl c1 (w_J4_append D l hl x0 x1 h e4) (by decide +kernel) (wA_l q597) (wA_l q2679) q232 q598 q81 q599 hy_229 ⟨Nat.le_of_ble_eq_true rfl, Nat.le_of_ble_eq_true rfl⟩ rfl rfl (Nat.le_of_ble_eq_true rfl) dJ5_append_2 rfl (kS ?_) kN
  refine v_pop (pc' := 6) hc_J5_append dJ5_append_5 rfl rfl ?_
  refine v_aload_n (pc' := 7) hc_J5_append dJ5_append_6 rfl rfl 0 rfl ?_
  obtain ⟨rfl, rfl⟩ := ret_of e
  exact v_aret hc_J5_append rfl (Or.inl ⟨_, rfl⟩) (Or.inr ⟨_, rfl⟩) dJ5_append_7 rfl rfl
theorem w_J5_append (D : va_G) (l : Launch) (hl : l.stackTraces = false) (x0 : Nat) (x1 : Int32) (h : AH) {r : Nat} {hF : AH} (e : f_J5_append x0 x1 h = some (r, hF)) : MetV D l yJ5_append (Cond.code yJ5_append cJ5_append 2 (Option.some (.object "java/lang/StringBuilder"))) 6 162 [.ref x0, .int x1] h hF (oR r) :=
  met_ofF (by decide +kernel) hl (Nat.le_of_ble_eq_true rfl) rfl (v_J5_append D l hl [.ref x0, .int x1] h x0 x1 h e)
/-! java/lang/String.coder()B  -/
abbrev G_J6_coder (D : va_G) (l : Launch) (as : List Value) (h0 hF : AH) (o : Out) : CT := (D, l, (yJ6_coder.cls, yJ6_coder, cJ6_coder, 1, (Option.some .byte), 1, 48, []), as, h0, hF, o)
theorem hc_J6_coder {D : va_G} {l : Launch} {as : List Value} {h0 hF : AH} {o : Out} : gC (G_J6_coder D l as h0 hF o) = cJ6_coder := rfl
theorem ho_J6_coder {D : va_G} {l : Launch} {as : List Value} {h0 hF : AH} {o : Out} : gO (G_J6_coder D l as h0 hF o) = "java/lang/String" := rfl
theorem hp_J6_coder {D : va_G} {l : Launch} {as : List Value} {h0 hF : AH} {o : Out} (pc : Nat) : ∀ z ∈ tableOf (gHd (G_J6_coder D l as h0 hF o)), covers z pc = false := hpN
def f_J6_coder (x0 : Nat) (h : AH) : Option (Int32 × AH) :=
  bd (gtI h 19 x0 1) fun v1 =>
  gd (nrw .byte v1) <|
  some (v1, h)
theorem v_J6_coder (D : va_G) (l : Launch) (hl : l.stackTraces = false) (as : List Value) (h0 : AH) {r : Int32} {hF : AH} (x0 : Nat) (h : AH) (e : f_J6_coder x0 h = some (r, hF)) : V (G_J6_coder D l as h0 hF (oI r)) h 0 [(0, .ref x0)] [] := by
  unfold f_J6_coder at e
  refine v_getsI (pc' := 3) (x := 1) hc_J6_coder ho_J6_coder (by decide +kernel) q704 dJ6_coder_0 rfl ?_
  refine v_if_eqF (pt := 13) (pf := 6) hc_J6_coder dJ6_coder_3 rfl rfl (by decide) ?_
  refine v_aload_n (pc' := 7) hc_J6_coder dJ6_coder_6 rfl rfl 0 rfl ?_
  refine v_gfI (pc' := 10) hc_J6_coder ho_J6_coder KJ6 1 (Nat.le_of_ble_eq_true rfl) q794 (Or.inl rfl) dJ6_coder_7 rfl e (fun v1 _ e => ?_)
  refine v_goto (pt := 14) hc_J6_coder dJ6_coder_10 rfl ?_
  obtain ⟨c2, e⟩ := gd_of e
  obtain ⟨rfl, rfl⟩ := ret_of e
  exact v_zret hc_J6_coder rfl (nrw_of c2) dJ6_coder_14 rfl rfl
theorem w_J6_coder (D : va_G) (l : Launch) (hl : l.stackTraces = false) (x0 : Nat) (h : AH) {r : Int32} {hF : AH} (e : f_J6_coder x0 h = some (r, hF)) : MetV D l yJ6_coder (Cond.code yJ6_coder cJ6_coder 1 (Option.some .byte)) 1 48 [.ref x0] h hF (oI r) :=
  met_ofF (by decide +kernel) hl (Nat.le_of_ble_eq_true rfl) rfl (v_J6_coder D l hl [.ref x0] h x0 h e)
/-! java/lang/String.length()I  -/
abbrev G_J6_length (D : va_G) (l : Launch) (as : List Value) (h0 hF : AH) (o : Out) : CT := (D, l, (yJ6_length.cls, yJ6_length, cJ6_length, 1, (Option.some .int), 2, 68, []), as, h0, hF, o)
theorem hc_J6_length {D : va_G} {l : Launch} {as : List Value} {h0 hF : AH} {o : Out} : gC (G_J6_length D l as h0 hF o) = cJ6_length := rfl
theorem ho_J6_length {D : va_G} {l : Launch} {as : List Value} {h0 hF : AH} {o : Out} : gO (G_J6_length D l as h0 hF o) = "java/lang/String" := rfl
theorem hp_J6_length {D : va_G} {l : Launch} {as : List Value} {h0 hF : AH} {o : Out} (pc : Nat) : ∀ z ∈ tableOf (gHd (G_J6_length D l as h0 hF o)), covers z pc = false := hpN
def f_J6_length (x0 : Nat) (h : AH) : Option (Int32 × AH) :=
  bd (gtR h 19 x0 0) fun v1 =>
  bd (aLn h v1) fun v2 =>
  gd (isC h 19 x0) <|
  bd2 (f_J6_coder x0 h) fun r4 h5 =>
  some ((v2 >>> (r4 &&& 31)), h5)
theorem v_J6_length (D : va_G) (l : Launch) (hl : l.stackTraces = false) (as : List Value) (h0 : AH) {r : Int32} {hF : AH} (x0 : Nat) (h : AH) (e : f_J6_length x0 h = some (r, hF)) : V (G_J6_length D l as h0 hF (oI r)) h 0 [(0, .ref x0)] [] := by
  unfold f_J6_length at e
  refine v_aload_n (pc' := 1) hc_J6_length dJ6_length_0 rfl rfl 0 rfl ?_
  refine v_gfR (pc' := 4) hc_J6_length ho_J6_length KJ6 0 (Nat.le_of_ble_eq_true rfl) q793 (Or.inl rfl) dJ6_length_1 rfl e (fun v1 _ e => ?_)
  refine v_alen (pc' := 5) hc_J6_length dJ6_length_4 rfl e (fun v2 _ e => ?_)
  refine v_aload_n (pc' := 6) hc_J6_length dJ6_length_5 rfl rfl 0 rfl ?_
  obtain ⟨c3, e⟩ := gd_of e
  obtain ⟨r4, h5, e6, e⟩ := bd2_of e
  refine k_V (pc' := 9) (ci := 19) (n := 0) hc_J6_length ho_J6_length rfl c3 (w_J6_coder D l hl x0 h e6) (wA_l q700) q701 (wA_l q702) q83 q703 hy_231 ⟨Nat.le_of_ble_eq_true rfl, Nat.le_of_ble_eq_true rfl⟩ rfl rfl (Nat.le_of_ble_eq_true rfl) dJ6_length_6 rfl (kS ?_) kN
  refine v_ishr (pc' := 10) hc_J6_length dJ6_length_9 rfl ?_
  obtain ⟨rfl, rfl⟩ := ret_of e
  exact v_iret hc_J6_length rfl dJ6_length_10 rfl rfl
theorem w_J6_length (D : va_G) (l : Launch) (hl : l.stackTraces = false) (x0 : Nat) (h : AH) {r : Int32} {hF : AH} (e : f_J6_length x0 h = some (r, hF)) : MetV D l yJ6_length (Cond.code yJ6_length cJ6_length 1 (Option.some .int)) 2 68 [.ref x0] h hF (oI r) :=
  met_ofF (by decide +kernel) hl (Nat.le_of_ble_eq_true rfl) rfl (v_J6_length D l hl [.ref x0] h x0 h e)
/-! java/lang/AbstractStringBuilder.putStringAt(ILjava/lang/String;)V  -/
abbrev G_J4_putStringAt (D : va_G) (l : Launch) (as : List Value) (h0 hF : AH) (o : Out) : CT := (D, l, (yJ4_putStringAt.cls, yJ4_putStringAt, cJ4_putStringAt, 3, (Option.none : Option FieldType), 1, 48, []), as, h0, hF, o)
theorem hc_J4_putStringAt {D : va_G} {l : Launch} {as : List Value} {h0 hF : AH} {o : Out} : gC (G_J4_putStringAt D l as h0 hF o) = cJ4_putStringAt := rfl
theorem ho_J4_putStringAt {D : va_G} {l : Launch} {as : List Value} {h0 hF : AH} {o : Out} : gO (G_J4_putStringAt D l as h0 hF o) = "java/lang/AbstractStringBuilder" := rfl
theorem hp_J4_putStringAt {D : va_G} {l : Launch} {as : List Value} {h0 hF : AH} {o : Out} (pc : Nat) : ∀ z ∈ tableOf (gHd (G_J4_putStringAt D l as h0 hF o)), covers z pc = false := hpN
def f_J4_putStringAt (x0 : Nat) (x1 : Int32) (x2 : Nat) (h : AH) : Option (Unit × AH) :=
  none
theorem v_J4_putStringAt (D : va_G) (l : Launch) (hl : l.stackTraces = false) (as : List Value) (h0 : AH) {r : Unit} {hF : AH} (x0 : Nat) (x1 : Int32) (x2 : Nat) (h : AH) (e : f_J4_putStringAt x0 x1 x2 h = some (r, hF)) : V (G_J4_putStringAt D l as h0 hF (oV r)) h 0 [(0, .ref x0), (1, .int x1), (2, .ref x2)] [] := by
  unfold f_J4_putStringAt at e
  refine v_aload_n (pc' := 1) hc_J4_putStringAt dJ4_putStringAt_0 rfl rfl 0 rfl ?_
  refine v_aload_n (pc' := 2) hc_J4_putStringAt dJ4_putStringAt_1 rfl rfl 2 rfl ?_
  exact nomatch e
theorem w_J4_putStringAt (D : va_G) (l : Launch) (hl : l.stackTraces = false) (x0 : Nat) (x1 : Int32) (x2 : Nat) (h : AH) {r : Unit} {hF : AH} (e : f_J4_putStringAt x0 x1 x2 h = some (r, hF)) : MetV D l yJ4_putStringAt (Cond.code yJ4_putStringAt cJ4_putStringAt 3 (Option.none : Option FieldType)) 1 48 [.ref x0, .int x1, .ref x2] h hF (oV r) :=
  met_ofF (by decide +kernel) hl (Nat.le_of_ble_eq_true rfl) rfl (v_J4_putStringAt D l hl [.ref x0, .int x1, .ref x2] h x0 x1 x2 h e)
/-! java/lang/AbstractStringBuilder.append(Ljava/lang/String;)Ljava/lang/AbstractStringBuilder;  -/
abbrev G_J4_append_2 (D : va_G) (l : Launch) (as : List Value) (h0 hF : AH) (o : Out) : CT := (D, l, (yJ4_append_2.cls, yJ4_append_2, cJ4_append_2, 3, (Option.some (.object "java/lang/AbstractStringBuilder")), 5, 139, []), as, h0, hF, o)
theorem hc_J4_append_2 {D : va_G} {l : Launch} {as : List Value} {h0 hF : AH} {o : Out} : gC (G_J4_append_2 D l as h0 hF o) = cJ4_append_2 := rfl
theorem ho_J4_append_2 {D : va_G} {l : Launch} {as : List Value} {h0 hF : AH} {o : Out} : gO (G_J4_append_2 D l as h0 hF o) = "java/lang/AbstractStringBuilder" := rfl
theorem hp_J4_append_2 {D : va_G} {l : Launch} {as : List Value} {h0 hF : AH} {o : Out} (pc : Nat) : ∀ z ∈ tableOf (gHd (G_J4_append_2 D l as h0 hF o)), covers z pc = false := hpN
def f_J4_append_2 (x0 : Nat) (x1 : Nat) (h : AH) : Option (Nat × AH) :=
  gd (isC h 19 x1) <|
  bd2 (f_J6_length x1 h) fun r2 h3 =>
  bd (gtI h3 18 x0 3) fun v5 =>
  gd (isC h3 18 x0) <|
  bd2 (f_J4_ensureCapacityInternal x0 (v5 + r2) h3) fun r7 h8 =>
  bd (gtI h8 18 x0 3) fun v10 =>
  gd (isC h8 18 x0) <|
  bd2 (f_J4_putStringAt x0 v10 x1 h8) fun r12 h13 =>
  bd (gtI h13 18 x0 3) fun v15 =>
  bd (stF h13 18 x0 3 (.int (v15 + r2))) fun h16 =>
  some (x0, h16)
theorem v_J4_append_2 (D : va_G) (l : Launch) (hl : l.stackTraces = false) (as : List Value) (h0 : AH) {r : Nat} {hF : AH} (x0 : Nat) (x1 : Nat) (h : AH) (e : f_J4_append_2 x0 x1 h = some (r, hF)) : V (G_J4_append_2 D l as h0 hF (oR r)) h 0 [(0, .ref x0), (1, .ref x1)] [] := by
  unfold f_J4_append_2 at e
  refine v_aload_n (pc' := 1) hc_J4_append_2 dJ4_append_2_0 rfl rfl 1 rfl ?_
  refine v_ifnonnull (pt := 9) hc_J4_append_2 dJ4_append_2_1 rfl ?_
  refine v_aload_n (pc' := 10) hc_J4_append_2 dJ4_append_2_9 rfl rfl 1 rfl ?_
  obtain ⟨c1, e⟩ := gd_of e
  obtain ⟨r2, h3, e4, e⟩ := bd2_of e
  refine k_V (pc' := 13) (ci := 19) (n := 0) hc_J4_append_2 ho_J4_append_2 rfl c1 (w_J6_length D l hl x1 h e4) (wA_l q696) q697 (wA_l q698) q83 q699 hy_232 ⟨Nat.le_of_ble_eq_true rfl, Nat.le_of_ble_eq_true rfl⟩ rfl rfl (Nat.le_of_ble_eq_true rfl) dJ4_append_2_10 rfl (kS ?_) kN
  refine v_istore_n (pc' := 14) (lv' := [(2, .int r2), (0, .ref x0), (1, .ref x1)]) hc_J4_append_2 dJ4_append_2_13 rfl rfl (Nat.le_of_ble_eq_true rfl) rfl ?_
  refine v_aload_n (pc' := 15) hc_J4_append_2 dJ4_append_2_14 rfl rfl 1 rfl ?_
  refine v_aload_n (pc' := 16) hc_J4_append_2 dJ4_append_2_15 rfl rfl 1 rfl ?_
  refine v_gfI (pc' := 19) hc_J4_append_2 ho_J4_append_2 KJ5 3 (Nat.le_of_ble_eq_true rfl) q223 (Or.inl rfl) dJ4_append_2_16 rfl e (fun v5 _ e => ?_)
  refine v_iload_n (pc' := 20) hc_J4_append_2 dJ4_append_2_19 rfl rfl 0 rfl ?_
  refine v_iadd (pc' := 21) hc_J4_append_2 dJ4_append_2_20 rfl ?_
  obtain ⟨c6, e⟩ := gd_of e
  obtain ⟨r7, h8, e9, e⟩ := bd2_of e
  refine k_V (pc' := 24) (ci := 18) (n := 1) hc_J4_append_2 ho_J4_append_2 rfl c6 (w_J4_ensureCapacityInternal D l hl x0 (v5 + r2) h3 e9) (wA_l q603) q605 qxp0 q81 q606 hy_226 ⟨Nat.le_of_ble_eq_true rfl, Nat.le_of_ble_eq_true rfl⟩ rfl rfl (Nat.le_of_ble_eq_true rfl) dJ4_append_2_21 rfl (kU ?_) kN
  refine v_aload_n (pc' := 25) hc_J4_append_2 dJ4_append_2_24 rfl rfl 1 rfl ?_
  refine v_aload_n (pc' := 26) hc_J4_append_2 dJ4_append_2_25 rfl rfl 1 rfl ?_
  refine v_gfI (pc' := 29) hc_J4_append_2 ho_J4_append_2 KJ5 3 (Nat.le_of_ble_eq_true rfl) q223 (Or.inl rfl) dJ4_append_2_26 rfl e (fun v10 _ e => ?_)
  refine v_aload_n (pc' := 30) hc_J4_append_2 dJ4_append_2_29 rfl rfl 2 rfl ?_
  obtain ⟨c11, e⟩ := gd_of e
  obtain ⟨r12, h13, e14, e⟩ := bd2_of e
  refine k_V (pc' := 33) (ci := 18) (n := 2) hc_J4_append_2 ho_J4_append_2 rfl c11 (w_J4_putStringAt D l hl x0 v10 x1 h8 e14) (wA_l q705) q707 qxp3 q81 q708 hy_233 ⟨Nat.le_of_ble_eq_true rfl, Nat.le_of_ble_eq_true rfl⟩ rfl rfl (Nat.le_of_ble_eq_true rfl) dJ4_append_2_30 rfl (kU ?_) kN
  refine v_aload_n (pc' := 34) hc_J4_append_2 dJ4_append_2_33 rfl rfl 1 rfl ?_
  refine v_dup (pc' := 35) hc_J4_append_2 dJ4_append_2_34 rfl rfl ?_
  refine v_gfI (pc' := 38) hc_J4_append_2 ho_J4_append_2 KJ5 3 (Nat.le_of_ble_eq_true rfl) q223 (Or.inl rfl) dJ4_append_2_35 rfl e (fun v15 _ e => ?_)
  refine v_iload_n (pc' := 39) hc_J4_append_2 dJ4_append_2_38 rfl rfl 0 rfl ?_
  refine v_iadd (pc' := 40) hc_J4_append_2 dJ4_append_2_39 rfl ?_
  refine v_pf (pc' := 43) hc_J4_append_2 ho_J4_append_2 KJ5 3 (Nat.le_of_ble_eq_true rfl) q223 (Or.inl rfl) rfl dJ4_append_2_40 rfl rfl rfl e (fun h16 _ e => ?_)
  refine v_aload_n (pc' := 44) hc_J4_append_2 dJ4_append_2_43 rfl rfl 1 rfl ?_
  obtain ⟨rfl, rfl⟩ := ret_of e
  exact v_aret hc_J4_append_2 rfl (Or.inl ⟨_, rfl⟩) (Or.inr ⟨_, rfl⟩) dJ4_append_2_44 rfl rfl
theorem w_J4_append_2 (D : va_G) (l : Launch) (hl : l.stackTraces = false) (x0 : Nat) (x1 : Nat) (h : AH) {r : Nat} {hF : AH} (e : f_J4_append_2 x0 x1 h = some (r, hF)) : MetV D l yJ4_append_2 (Cond.code yJ4_append_2 cJ4_append_2 3 (Option.some (.object "java/lang/AbstractStringBuilder"))) 5 139 [.ref x0, .ref x1] h hF (oR r) :=
  met_ofF (by decide +kernel) hl (Nat.le_of_ble_eq_true rfl) rfl (v_J4_append_2 D l hl [.ref x0, .ref x1] h x0 x1 h e)
/-! java/lang/StringBuilder.append(Ljava/lang/String;)Ljava/lang/StringBuilder;  -/
abbrev G_J5_append_2 (D : va_G) (l : Launch) (as : List Value) (h0 hF : AH) (o : Out) : CT := (D, l, (yJ5_append_2.cls, yJ5_append_2, cJ5_append_2, 2, (Option.some (.object "java/lang/StringBuilder")), 6, 161, []), as, h0, hF, o)
theorem hc_J5_append_2 {D : va_G} {l : Launch} {as : List Value} {h0 hF : AH} {o : Out} : gC (G_J5_append_2 D l as h0 hF o) = cJ5_append_2 := rfl
theorem ho_J5_append_2 {D : va_G} {l : Launch} {as : List Value} {h0 hF : AH} {o : Out} : gO (G_J5_append_2 D l as h0 hF o) = "java/lang/StringBuilder" := rfl
theorem hp_J5_append_2 {D : va_G} {l : Launch} {as : List Value} {h0 hF : AH} {o : Out} (pc : Nat) : ∀ z ∈ tableOf (gHd (G_J5_append_2 D l as h0 hF o)), covers z pc = false := hpN
def f_J5_append_2 (x0 : Nat) (x1 : Nat) (h : AH) : Option (Nat × AH) :=
  gd (isC h 18 x0) <|
  bd2 (f_J4_append_2 x0 x1 h) fun r2 h3 =>
  some (x0, h3)
theorem v_J5_append_2 (D : va_G) (l : Launch) (hl : l.stackTraces = false) (as : List Value) (h0 : AH) {r : Nat} {hF : AH} (x0 : Nat) (x1 : Nat) (h : AH) (e : f_J5_append_2 x0 x1 h = some (r, hF)) : V (G_J5_append_2 D l as h0 hF (oR r)) h 0 [(0, .ref x0), (1, .ref x1)] [] := by
  unfold f_J5_append_2 at e
  refine v_aload_n (pc' := 1) hc_J5_append_2 dJ5_append_2_0 rfl rfl 0 rfl ?_
  refine v_aload_n (pc' := 2) hc_J5_append_2 dJ5_append_2_1 rfl rfl 1 rfl ?_
  obtain ⟨c1, e⟩ := gd_of e
  obtain ⟨r2, h3, e4, e⟩ := bd2_of e
  refine k_SU (pc' := 5) (x := ⟨"java/lang/AbstractStringBuilder", "append", "(Ljava/lang/String;)Ljava/lang/AbstractStringBuilder;"⟩) (ci := 18) (n := 1) hc_J5_append_2 ho_J5_append_2 rfl c1 (w_J4_append_2 D l hl x0 x1 h e4) (by decide +kernel) (wA_l q686) (wA_l q2682) q232 q687 q81 q688 hy_234 ⟨Nat.le_of_ble_eq_true rfl, Nat.le_of_ble_eq_true rfl⟩ rfl rfl (Nat.le_of_ble_eq_true rfl) dJ5_append_2_2 rfl (kS ?_) kN
  refine v_pop (pc' := 6) hc_J5_append_2 dJ5_append_2_5 rfl rfl ?_
  refine v_aload_n (pc' := 7) hc_J5_append_2 dJ5_append_2_6 rfl rfl 0 rfl ?_
  obtain ⟨rfl, rfl⟩ := ret_of e
  exact v_aret hc_J5_append_2 rfl (Or.inl ⟨_, rfl⟩) (Or.inr ⟨_, rfl⟩) dJ5_append_2_7 rfl rfl
theorem w_J5_append_2 (D : va_G) (l : Launch) (hl : l.stackTraces = false) (x0 : Nat) (x1 : Nat) (h : AH) {r : Nat} {hF : AH} (e : f_J5_append_2 x0 x1 h = some (r, hF)) : MetV D l yJ5_append_2 (Cond.code yJ5_append_2 cJ5_append_2 2 (Option.some (.object "java/lang/StringBuilder"))) 6 161 [.ref x0, .ref x1] h hF (oR r) :=
  met_ofF (by decide +kernel) hl (Nat.le_of_ble_eq_true rfl) rfl (v_J5_append_2 D l hl [.ref x0, .ref x1] h x0 x1 h e)
/-! java/lang/AbstractStringBuilder.getValue()[B  -/
abbrev G_J4_getValue (D : va_G) (l : Launch) (as : List Value) (h0 hF : AH) (o : Out) : CT := (D, l, (yJ4_getValue.cls, yJ4_getValue, cJ4_getValue, 1, (Option.some (.array .byte)), 1, 48, []), as, h0, hF, o)
theorem hc_J4_getValue {D : va_G} {l : Launch} {as : List Value} {h0 hF : AH} {o : Out} : gC (G_J4_getValue D l as h0 hF o) = cJ4_getValue := rfl
theorem ho_J4_getValue {D : va_G} {l : Launch} {as : List Value} {h0 hF : AH} {o : Out} : gO (G_J4_getValue D l as h0 hF o) = "java/lang/AbstractStringBuilder" := rfl
theorem hp_J4_getValue {D : va_G} {l : Launch} {as : List Value} {h0 hF : AH} {o : Out} (pc : Nat) : ∀ z ∈ tableOf (gHd (G_J4_getValue D l as h0 hF o)), covers z pc = false := hpN
def f_J4_getValue (x0 : Nat) (h : AH) : Option (Nat × AH) :=
  bd (gtR h 18 x0 0) fun v1 =>
  some (v1, h)
theorem v_J4_getValue (D : va_G) (l : Launch) (hl : l.stackTraces = false) (as : List Value) (h0 : AH) {r : Nat} {hF : AH} (x0 : Nat) (h : AH) (e : f_J4_getValue x0 h = some (r, hF)) : V (G_J4_getValue D l as h0 hF (oR r)) h 0 [(0, .ref x0)] [] := by
  unfold f_J4_getValue at e
  refine v_aload_n (pc' := 1) hc_J4_getValue dJ4_getValue_0 rfl rfl 0 rfl ?_
  refine v_gfR (pc' := 4) hc_J4_getValue ho_J4_getValue KJ5 0 (Nat.le_of_ble_eq_true rfl) q219 (Or.inl rfl) dJ4_getValue_1 rfl e (fun v1 _ e => ?_)
  obtain ⟨rfl, rfl⟩ := ret_of e
  exact v_aret hc_J4_getValue rfl (Or.inr ⟨_, rfl⟩) (Or.inr ⟨_, rfl⟩) dJ4_getValue_4 rfl rfl
theorem w_J4_getValue (D : va_G) (l : Launch) (hl : l.stackTraces = false) (x0 : Nat) (h : AH) {r : Nat} {hF : AH} (e : f_J4_getValue x0 h = some (r, hF)) : MetV D l yJ4_getValue (Cond.code yJ4_getValue cJ4_getValue 1 (Option.some (.array .byte))) 1 48 [.ref x0] h hF (oR r) :=
  met_ofF (by decide +kernel) hl (Nat.le_of_ble_eq_true rfl) rfl (v_J4_getValue D l hl [.ref x0] h x0 h e)
/-! java/lang/AbstractStringBuilder.length()I  -/
abbrev G_J4_length (D : va_G) (l : Launch) (as : List Value) (h0 hF : AH) (o : Out) : CT := (D, l, (yJ4_length.cls, yJ4_length, cJ4_length, 1, (Option.some .int), 1, 48, []), as, h0, hF, o)
theorem hc_J4_length {D : va_G} {l : Launch} {as : List Value} {h0 hF : AH} {o : Out} : gC (G_J4_length D l as h0 hF o) = cJ4_length := rfl
theorem ho_J4_length {D : va_G} {l : Launch} {as : List Value} {h0 hF : AH} {o : Out} : gO (G_J4_length D l as h0 hF o) = "java/lang/AbstractStringBuilder" := rfl
theorem hp_J4_length {D : va_G} {l : Launch} {as : List Value} {h0 hF : AH} {o : Out} (pc : Nat) : ∀ z ∈ tableOf (gHd (G_J4_length D l as h0 hF o)), covers z pc = false := hpN
def f_J4_length (x0 : Nat) (h : AH) : Option (Int32 × AH) :=
  bd (gtI h 18 x0 3) fun v1 =>
  some (v1, h)
theorem v_J4_length (D : va_G) (l : Launch) (hl : l.stackTraces = false) (as : List Value) (h0 : AH) {r : Int32} {hF : AH} (x0 : Nat) (h : AH) (e : f_J4_length x0 h = some (r, hF)) : V (G_J4_length D l as h0 hF (oI r)) h 0 [(0, .ref x0)] [] := by
  unfold f_J4_length at e
  refine v_aload_n (pc' := 1) hc_J4_length dJ4_length_0 rfl rfl 0 rfl ?_
  refine v_gfI (pc' := 4) hc_J4_length ho_J4_length KJ5 3 (Nat.le_of_ble_eq_true rfl) q223 (Or.inl rfl) dJ4_length_1 rfl e (fun v1 _ e => ?_)
  obtain ⟨rfl, rfl⟩ := ret_of e
  exact v_iret hc_J4_length rfl dJ4_length_4 rfl rfl
theorem w_J4_length (D : va_G) (l : Launch) (hl : l.stackTraces = false) (x0 : Nat) (h : AH) {r : Int32} {hF : AH} (e : f_J4_length x0 h = some (r, hF)) : MetV D l yJ4_length (Cond.code yJ4_length cJ4_length 1 (Option.some .int)) 1 48 [.ref x0] h hF (oI r) :=
  met_ofF (by decide +kernel) hl (Nat.le_of_ble_eq_true rfl) rfl (v_J4_length D l hl [.ref x0] h x0 h e)
/-! java/lang/StringBuilder.length()I  -/
abbrev G_J5_length (D : va_G) (l : Launch) (as : List Value) (h0 hF : AH) (o : Out) : CT := (D, l, (yJ5_length.cls, yJ5_length, cJ5_length, 1, (Option.some .int), 2, 68, []), as, h0, hF, o)
theorem hc_J5_length {D : va_G} {l : Launch} {as : List Value} {h0 hF : AH} {o : Out} : gC (G_J5_length D l as h0 hF o) = cJ5_length := rfl
theorem ho_J5_length {D : va_G} {l : Launch} {as : List Value} {h0 hF : AH} {o : Out} : gO (G_J5_length D l as h0 hF o) = "java/lang/StringBuilder" := rfl
theorem hp_J5_length {D : va_G} {l : Launch} {as : List Value} {h0 hF : AH} {o : Out} (pc : Nat) : ∀ z ∈ tableOf (gHd (G_J5_length D l as h0 hF o)), covers z pc = false := hpN
def f_J5_length (x0 : Nat) (h : AH) : Option (Int32 × AH) :=
  gd (isC h 18 x0) <|
  bd2 (f_J4_length x0 h) fun r2 h3 =>
  some (r2, h3)
theorem v_J5_length (D : va_G) (l : Launch) (hl : l.stackTraces = false) (as : List Value) (h0 : AH) {r : Int32} {hF : AH} (x0 : Nat) (h : AH) (e : f_J5_length x0 h = some (r, hF)) : V (G_J5_length D l as h0 hF (oI r)) h 0 [(0, .ref x0)] [] := by
  unfold f_J5_length at e
  refine v_aload_n (pc' := 1) hc_J5_length dJ5_length_0 rfl rfl 0 rfl ?_
  obtain ⟨c1, e⟩ := gd_of e
  obtain ⟨r2, h3, e4, e⟩ := bd2_of e
  refine k_SU (pc' := 4) (x := ⟨"java/lang/AbstractStringBuilder", "length", "()I"⟩) (ci := 18) (n := 0) hc_J5_length ho_J5_length rfl c1 (w_J4_length D l hl x0 h e4) (by decide +kernel) (wA_l q537) (wA_l q2678) q232 q538 q81 q539 hy_237 ⟨Nat.le_of_ble_eq_true rfl, Nat.le_of_ble_eq_true rfl⟩ rfl rfl (Nat.le_of_ble_eq_true rfl) dJ5_length_1 rfl (kS ?_) kN
  obtain ⟨rfl, rfl⟩ := ret_of e
  exact v_iret hc_J5_length rfl dJ5_length_4 rfl rfl
theorem w_J5_length (D : va_G) (l : Launch) (hl : l.stackTraces = false) (x0 : Nat) (h : AH) {r : Int32} {hF : AH} (e : f_J5_length x0 h = some (r, hF)) : MetV D l yJ5_length (Cond.code yJ5_length cJ5_length 1 (Option.some .int)) 2 68 [.ref x0] h hF (oI r) :=
  met_ofF (by decide +kernel) hl (Nat.le_of_ble_eq_true rfl) rfl (v_J5_length D l hl [.ref x0] h x0 h e)
/-! java/util/Arrays.checkLength(II)V  -/
abbrev G_J8_checkLength (D : va_G) (l : Launch) (as : List Value) (h0 hF : AH) (o : Out) : CT := (D, l, (yJ8_checkLength.cls, yJ8_checkLength, cJ8_checkLength, 2, (Option.none : Option FieldType), 1, 48, []), as, h0, hF, o)
theorem hc_J8_checkLength {D : va_G} {l : Launch} {as : List Value} {h0 hF : AH} {o : Out} : gC (G_J8_checkLength D l as h0 hF o) = cJ8_checkLength := rfl
theorem ho_J8_checkLength {D : va_G} {l : Launch} {as : List Value} {h0 hF : AH} {o : Out} : gO (G_J8_checkLength D l as h0 hF o) = "java/util/Arrays" := rfl
theorem hp_J8_checkLength {D : va_G} {l : Launch} {as : List Value} {h0 hF : AH} {o : Out} (pc : Nat) : ∀ z ∈ tableOf (gHd (G_J8_checkLength D l as h0 hF o)), covers z pc = false := hpN
def f_J8_checkLength (x0 : Int32) (x1 : Int32) (h : AH) : Option (Unit × AH) :=
  if x0 ≤ x1 then (
    some ((), h)
  ) else (
    none
  )
theorem v_J8_checkLength (D : va_G) (l : Launch) (hl : l.stackTraces = false) (as : List Value) (h0 : AH) {r : Unit} {hF : AH} (x0 : Int32) (x1 : Int32) (h : AH) (e : f_J8_checkLength x0 x1 h = some (r, hF)) : V (G_J8_checkLength D l as h0 hF (oV r)) h 0 [(0, .int x0), (1, .int x1)] [] := by
  unfold f_J8_checkLength at e
  refine v_iload_n (pc' := 1) hc_J8_checkLength dJ8_checkLength_0 rfl rfl 1 rfl ?_
  refine v_iload_n (pc' := 2) hc_J8_checkLength dJ8_checkLength_1 rfl rfl 0 rfl ?_
  refine v_icmp_ge (pt := 37) (pf := 5) hc_J8_checkLength dJ8_checkLength_2 rfl rfl e (fun _ e => ?_) (fun _ e => ?_)
  · obtain ⟨rfl, rfl⟩ := ret_of e
    exact v_ret hc_J8_checkLength rfl dJ8_checkLength_37 rfl rfl
  · exact nomatch e
theorem w_J8_checkLength (D : va_G) (l : Launch) (hl : l.stackTraces = false) (x0 : Int32) (x1 : Int32) (h : AH) {r : Unit} {hF : AH} (e : f_J8_checkLength x0 x1 h = some (r, hF)) : MetV D l yJ8_checkLength (Cond.code yJ8_checkLength cJ8_checkLength 2 (Option.none : Option FieldType)) 1 48 [.int x0, .int x1] h hF (oV r) :=
  met_ofF (by decide +kernel) hl (Nat.le_of_ble_eq_true rfl) rfl (v_J8_checkLength D l hl [.int x0, .int x1] h x0 x1 h e)
/-! java/util/Arrays.copyOfRangeByte([BII)[B  -/
abbrev G_J8_copyOfRangeByte (D : va_G) (l : Launch) (as : List Value) (h0 hF : AH) (o : Out) : CT := (D, l, (yJ8_copyOfRangeByte.cls, yJ8_copyOfRangeByte, cJ8_copyOfRangeByte, 5, (Option.some (.array .byte)), 2, 69, []), as, h0, hF, o)
theorem hc_J8_copyOfRangeByte {D : va_G} {l : Launch} {as : List Value} {h0 hF : AH} {o : Out} : gC (G_J8_copyOfRangeByte D l as h0 hF o) = cJ8_copyOfRangeByte := rfl
theorem ho_J8_copyOfRangeByte {D : va_G} {l : Launch} {as : List Value} {h0 hF : AH} {o : Out} : gO (G_J8_copyOfRangeByte D l as h0 hF o) = "java/util/Arrays" := rfl
theorem hp_J8_copyOfRangeByte {D : va_G} {l : Launch} {as : List Value} {h0 hF : AH} {o : Out} (pc : Nat) : ∀ z ∈ tableOf (gHd (G_J8_copyOfRangeByte D l as h0 hF o)), covers z pc = false := hpN
def f_J8_copyOfRangeByte (x0 : Nat) (x1 : Int32) (x2 : Int32) (h : AH) : Option (Nat × AH) :=
  bd2 (f_J8_checkLength x1 x2 h) fun r1 h2 =>
  bd2 (nwA h2 3 (x2 - x1)) fun a4 h5 =>
  bd (aLn h5 x0) fun v6 =>
  bd2 (f_J15_min (v6 - x1) (x2 - x1) h5) fun r7 h8 =>
  bd (cpI h8 3 x0 x1 a4 (0 : Int32) r7) fun h10 =>
  some (a4, h10)
theorem v_J8_copyOfRangeByte (D : va_G) (l : Launch) (hl : l.stackTraces = false) (as : List Value) (h0 : AH) {r : Nat} {hF : AH} (x0 : Nat) (x1 : Int32) (x2 : Int32) (h : AH) (e : f_J8_copyOfRangeByte x0 x1 x2 h = some (r, hF)) : V (G_J8_copyOfRangeByte D l as h0 hF (oR r)) h 0 [(0, .ref x0), (1, .int x1), (2, .int x2)] [] := by
  unfold f_J8_copyOfRangeByte at e
  refine v_iload_n (pc' := 1) hc_J8_copyOfRangeByte dJ8_copyOfRangeByte_0 rfl rfl 1 rfl ?_
  refine v_iload_n (pc' := 2) hc_J8_copyOfRangeByte dJ8_copyOfRangeByte_1 rfl rfl 2 rfl ?_
  obtain ⟨r1, h2, e3, e⟩ := bd2_of e
  refine k_S (pc' := 5) (n := 2) hc_J8_copyOfRangeByte ho_J8_copyOfRangeByte (w_J8_checkLength D l hl x1 x2 h e3) (wA_l q765) q766 q87 q767 hy_238 ⟨Nat.le_of_ble_eq_true rfl, Nat.le_of_ble_eq_true rfl⟩ rfl rfl (Nat.le_of_ble_eq_true rfl) dJ8_copyOfRangeByte_2 rfl (kU ?_) kN
  refine v_iload_n (pc' := 6) hc_J8_copyOfRangeByte dJ8_copyOfRangeByte_5 rfl rfl 2 rfl ?_
  refine v_iload_n (pc' := 7) hc_J8_copyOfRangeByte dJ8_copyOfRangeByte_6 rfl rfl 1 rfl ?_
  refine v_isub (pc' := 8) hc_J8_copyOfRangeByte dJ8_copyOfRangeByte_7 rfl ?_
  refine v_istore_n (pc' := 9) (lv' := [(3, .int (x2 - x1)), (0, .ref x0), (1, .int x1), (2, .int x2)]) hc_J8_copyOfRangeByte dJ8_copyOfRangeByte_8 rfl rfl (Nat.le_of_ble_eq_true rfl) rfl ?_
  refine v_iload_n (pc' := 10) hc_J8_copyOfRangeByte dJ8_copyOfRangeByte_9 rfl rfl 0 rfl ?_
  refine v_newa (pc' := 12) (k := 3) (at0 := .byte) hc_J8_copyOfRangeByte rfl (by decide) q233 dJ8_copyOfRangeByte_10 rfl e (fun a4 h5 _ e => ?_)
  refine v_astore (pc' := 14) (lv' := [(4, .ref a4), (3, .int (x2 - x1)), (0, .ref x0), (1, .int x1), (2, .int x2)]) hc_J8_copyOfRangeByte dJ8_copyOfRangeByte_12 rfl (Nat.le_of_ble_eq_true rfl) rfl ?_
  refine v_aload_n (pc' := 15) hc_J8_copyOfRangeByte dJ8_copyOfRangeByte_14 rfl rfl 2 rfl ?_
  refine v_iload_n (pc' := 16) hc_J8_copyOfRangeByte dJ8_copyOfRangeByte_15 rfl rfl 3 rfl ?_
  refine v_aload (pc' := 18) hc_J8_copyOfRangeByte dJ8_copyOfRangeByte_16 rfl 0 rfl ?_
  refine v_iconst (pc' := 19) (v := 0) hc_J8_copyOfRangeByte dJ8_copyOfRangeByte_18 rfl rfl ?_
  refine v_aload_n (pc' := 20) hc_J8_copyOfRangeByte dJ8_copyOfRangeByte_19 rfl rfl 2 rfl ?_
  refine v_alen (pc' := 21) hc_J8_copyOfRangeByte dJ8_copyOfRangeByte_20 rfl e (fun v6 _ e => ?_)
  refine v_iload_n (pc' := 22) hc_J8_copyOfRangeByte dJ8_copyOfRangeByte_21 rfl rfl 3 rfl ?_
  refine v_isub (pc' := 23) hc_J8_copyOfRangeByte dJ8_copyOfRangeByte_22 rfl ?_
  refine v_iload_n (pc' := 24) hc_J8_copyOfRangeByte dJ8_copyOfRangeByte_23 rfl rfl 1 rfl ?_
  obtain ⟨r7, h8, e9, e⟩ := bd2_of e
  refine k_S (pc' := 27) (n := 2) hc_J8_copyOfRangeByte ho_J8_copyOfRangeByte (w_J15_min D l hl (v6 - x1) (x2 - x1) h5 e9) (wA_l q632) q633 q95 q634 hy_11 ⟨Nat.le_of_ble_eq_true rfl, Nat.le_of_ble_eq_true rfl⟩ rfl rfl (Nat.le_of_ble_eq_true rfl) dJ8_copyOfRangeByte_24 rfl (kS ?_) kN
  refine v_cpI (pc' := 30) (k := 3) hc_J8_copyOfRangeByte ho_J8_copyOfRangeByte q635 q637 q636 q96 ⟨Nat.le_of_ble_eq_true rfl, Nat.le_of_ble_eq_true rfl⟩ dJ8_copyOfRangeByte_27 rfl e (fun h10 _ e => ?_)
  refine v_aload (pc' := 32) hc_J8_copyOfRangeByte dJ8_copyOfRangeByte_30 rfl 0 rfl ?_
  obtain ⟨rfl, rfl⟩ := ret_of e
  exact v_aret hc_J8_copyOfRangeByte rfl (Or.inr ⟨_, rfl⟩) (Or.inr ⟨_, rfl⟩) dJ8_copyOfRangeByte_32 rfl rfl
theorem w_J8_copyOfRangeByte (D : va_G) (l : Launch) (hl : l.stackTraces = false) (x0 : Nat) (x1 : Int32) (x2 : Int32) (h : AH) {r : Nat} {hF : AH} (e : f_J8_copyOfRangeByte x0 x1 x2 h = some (r, hF)) : MetV D l yJ8_copyOfRangeByte (Cond.code yJ8_copyOfRangeByte cJ8_copyOfRangeByte 5 (Option.some (.array .byte))) 2 69 [.ref x0, .int x1, .int x2] h hF (oR r) :=
  met_ofF (by decide +kernel) hl (Nat.le_of_ble_eq_true rfl) rfl (v_J8_copyOfRangeByte D l hl [.ref x0, .int x1, .int x2] h x0 x1 x2 h e)
/-! java/util/Arrays.copyOfRange([BII)[B  -/
abbrev G_J8_copyOfRange_2 (D : va_G) (l : Launch) (as : List Value) (h0 hF : AH) (o : Out) : CT := (D, l, (yJ8_copyOfRange_2.cls, yJ8_copyOfRange_2, cJ8_copyOfRange_2, 3, (Option.some (.array .byte)), 3, 93, []), as, h0, hF, o)
theorem hc_J8_copyOfRange_2 {D : va_G} {l : Launch} {as : List Value} {h0 hF : AH} {o : Out} : gC (G_J8_copyOfRange_2 D l as h0 hF o) = cJ8_copyOfRange_2 := rfl
theorem ho_J8_copyOfRange_2 {D : va_G} {l : Launch} {as : List Value} {h0 hF : AH} {o : Out} : gO (G_J8_copyOfRange_2 D l as h0 hF o) = "java/util/Arrays" := rfl
theorem hp_J8_copyOfRange_2 {D : va_G} {l : Launch} {as : List Value} {h0 hF : AH} {o : Out} (pc : Nat) : ∀ z ∈ tableOf (gHd (G_J8_copyOfRange_2 D l as h0 hF o)), covers z pc = false := hpN
def f_J8_copyOfRange_2 (x0 : Nat) (x1 : Int32) (x2 : Int32) (h : AH) : Option (Nat × AH) :=
  if x1 = 0 then (
    bd (aLn h x0) fun v1 =>
    if x2 = v1 then (
      none
    ) else (
      bd2 (f_J8_copyOfRangeByte x0 x1 x2 h) fun r2 h3 =>
      some (r2, h3)
    )
  ) else (
    bd2 (f_J8_copyOfRangeByte x0 x1 x2 h) fun r5 h6 =>
    some (r5, h6)
  )
theorem v_J8_copyOfRange_2 (D : va_G) (l : Launch) (hl : l.stackTraces = false) (as : List Value) (h0 : AH) {r : Nat} {hF : AH} (x0 : Nat) (x1 : Int32) (x2 : Int32) (h : AH) (e : f_J8_copyOfRange_2 x0 x1 x2 h = some (r, hF)) : V (G_J8_copyOfRange_2 D l as h0 hF (oR r)) h 0 [(0, .ref x0), (1, .int x1), (2, .int x2)] [] := by
  unfold f_J8_copyOfRange_2 at e
  refine v_iload_n (pc' := 1) hc_J8_copyOfRange_2 dJ8_copyOfRange_2_0 rfl rfl 1 rfl ?_
  refine v_if_ne (pt := 10) (pf := 4) hc_J8_copyOfRange_2 dJ8_copyOfRange_2_1 rfl rfl e (fun _ e => ?_) (fun _ e => ?_)
  · refine v_iload_n (pc' := 5) hc_J8_copyOfRange_2 dJ8_copyOfRange_2_4 rfl rfl 2 rfl ?_
    refine v_aload_n (pc' := 6) hc_J8_copyOfRange_2 dJ8_copyOfRange_2_5 rfl rfl 0 rfl ?_
    refine v_alen (pc' := 7) hc_J8_copyOfRange_2 dJ8_copyOfRange_2_6 rfl e (fun v1 _ e => ?_)
    refine v_icmp_eq (pt := 17) (pf := 10) hc_J8_copyOfRange_2 dJ8_copyOfRange_2_7 rfl rfl e (fun _ e => ?_) (fun _ e => ?_)
    · refine v_aload_n (pc' := 18) hc_J8_copyOfRange_2 dJ8_copyOfRange_2_17 rfl rfl 0 rfl ?_
      exact nomatch e
    · refine v_aload_n (pc' := 11) hc_J8_copyOfRange_2 dJ8_copyOfRange_2_10 rfl rfl 0 rfl ?_
      refine v_iload_n (pc' := 12) hc_J8_copyOfRange_2 dJ8_copyOfRange_2_11 rfl rfl 1 rfl ?_
      refine v_iload_n (pc' := 13) hc_J8_copyOfRange_2 dJ8_copyOfRange_2_12 rfl rfl 2 rfl ?_
      obtain ⟨r2, h3, e4, e⟩ := bd2_of e
      refine k_S (pc' := 16) (n := 3) hc_J8_copyOfRange_2 ho_J8_copyOfRange_2 (w_J8_copyOfRangeByte D l hl x0 x1 x2 h e4) (wA_l q762) q763 q87 q764 hy_239 ⟨Nat.le_of_ble_eq_true rfl, Nat.le_of_ble_eq_true rfl⟩ rfl rfl (Nat.le_of_ble_eq_true rfl) dJ8_copyOfRange_2_13 rfl (kS ?_) kN
      obtain ⟨rfl, rfl⟩ := ret_of e
      exact v_aret hc_J8_copyOfRange_2 rfl (Or.inr ⟨_, rfl⟩) (Or.inr ⟨_, rfl⟩) dJ8_copyOfRange_2_16 rfl rfl
  · refine v_aload_n (pc' := 11) hc_J8_copyOfRange_2 dJ8_copyOfRange_2_10 rfl rfl 0 rfl ?_
    refine v_iload_n (pc' := 12) hc_J8_copyOfRange_2 dJ8_copyOfRange_2_11 rfl rfl 1 rfl ?_
    refine v_iload_n (pc' := 13) hc_J8_copyOfRange_2 dJ8_copyOfRange_2_12 rfl rfl 2 rfl ?_
    obtain ⟨r5, h6, e7, e⟩ := bd2_of e
    refine k_S (pc' := 16) (n := 3) hc_J8_copyOfRange_2 ho_J8_copyOfRange_2 (w_J8_copyOfRangeByte D l hl x0 x1 x2 h e7) (wA_l q762) q763 q87 q764 hy_239 ⟨Nat.le_of_ble_eq_true rfl, Nat.le_of_ble_eq_true rfl⟩ rfl rfl (Nat.le_of_ble_eq_true rfl) dJ8_copyOfRange_2_13 rfl (kS ?_) kN
    obtain ⟨rfl, rfl⟩ := ret_of e
    exact v_aret hc_J8_copyOfRange_2 rfl (Or.inr ⟨_, rfl⟩) (Or.inr ⟨_, rfl⟩) dJ8_copyOfRange_2_16 rfl rfl
theorem w_J8_copyOfRange_2 (D : va_G) (l : Launch) (hl : l.stackTraces = false) (x0 : Nat) (x1 : Int32) (x2 : Int32) (h : AH) {r : Nat} {hF : AH} (e : f_J8_copyOfRange_2 x0 x1 x2 h = some (r, hF)) : MetV D l yJ8_copyOfRange_2 (Cond.code yJ8_copyOfRange_2 cJ8_copyOfRange_2 3 (Option.some (.array .byte))) 3 93 [.ref x0, .int x1, .int x2] h hF (oR r) :=
  met_ofF (by decide +kernel) hl (Nat.le_of_ble_eq_true rfl) rfl (v_J8_copyOfRange_2 D l hl [.ref x0, .int x1, .int x2] h x0 x1 x2 h e)
/-! java/lang/String.<init>(Ljava/lang/AbstractStringBuilder;Ljava/lang/Void;)V {'nul': (2,)} -/
abbrev G_J6_init_2_n2 (D : va_G) (l : Launch) (as : List Value) (h0 hF : AH) (o : Out) : CT := (D, l, (yJ6_init_2.cls, yJ6_init_2, cJ6_init_2, 5, (Option.none : Option FieldType), 4, 115, []), as, h0, hF, o)
theorem hc_J6_init_2_n2 {D : va_G} {l : Launch} {as : List Value} {h0 hF : AH} {o : Out} : gC (G_J6_init_2_n2 D l as h0 hF o) = cJ6_init_2 := rfl
theorem ho_J6_init_2_n2 {D : va_G} {l : Launch} {as : List Value} {h0 hF : AH} {o : Out} : gO (G_J6_init_2_n2 D l as h0 hF o) = "java/lang/String" := rfl
theorem hp_J6_init_2_n2 {D : va_G} {l : Launch} {as : List Value} {h0 hF : AH} {o : Out} (pc : Nat) : ∀ z ∈ tableOf (gHd (G_J6_init_2_n2 D l as h0 hF o)), covers z pc = false := hpN
def f_J6_init_2_n2_j79 (x0 : Nat) (x3 : Nat) (x4 : Int32) (h : AH) : Option (Unit × AH) :=
  bd (stF h 19 x0 1 (.int (1 : Int32))) fun h1 =>
  bd2 (f_J8_copyOfRange_2 x3 (0 : Int32) (x4 <<< ((1 : Int32) &&& 31)) h1) fun r2 h3 =>
  bd (stF h3 19 x0 0 (.ref r2)) fun h5 =>
  some ((), h5)
theorem w_J6_init_2_n2_j79 (D : va_G) (l : Launch) (hl : l.stackTraces = false) (as : List Value) (h0 : AH) {r : Unit} {hF : AH} (x0 : Nat) (x3 : Nat) (x4 : Int32) (h : AH) (e : f_J6_init_2_n2_j79 x0 x3 x4 h = some (r, hF)) : V (G_J6_init_2_n2 D l as h0 hF (oV r)) h 79 [(0, .ref x0), (3, .ref x3), (4, .int x4)] [] := by
  unfold f_J6_init_2_n2_j79 at e
  refine v_aload_n (pc' := 80) hc_J6_init_2_n2 dJ6_init_2_79 rfl rfl 0 rfl ?_
  refine v_iconst (pc' := 81) (v := 1) hc_J6_init_2_n2 dJ6_init_2_80 rfl rfl ?_
  refine v_pfF (pc' := 84) hc_J6_init_2_n2 ho_J6_init_2_n2 rfl KJ6 1 (Nat.le_of_ble_eq_true rfl) q794 rfl rfl rfl dJ6_init_2_81 rfl rfl rfl e (fun h1 _ e => ?_)
  refine v_aload_n (pc' := 85) hc_J6_init_2_n2 dJ6_init_2_84 rfl rfl 0 rfl ?_
  refine v_aload_n (pc' := 86) hc_J6_init_2_n2 dJ6_init_2_85 rfl rfl 1 rfl ?_
  refine v_iconst (pc' := 87) (v := 0) hc_J6_init_2_n2 dJ6_init_2_86 rfl rfl ?_
  refine v_iload (pc' := 89) hc_J6_init_2_n2 dJ6_init_2_87 rfl 2 rfl ?_
  refine v_iconst (pc' := 90) (v := 1) hc_J6_init_2_n2 dJ6_init_2_89 rfl rfl ?_
  refine v_ishl (pc' := 91) hc_J6_init_2_n2 dJ6_init_2_90 rfl ?_
  obtain ⟨r2, h3, e4, e⟩ := bd2_of e
  refine k_S (pc' := 94) (n := 3) hc_J6_init_2_n2 ho_J6_init_2_n2 (w_J8_copyOfRange_2 D l hl x3 (0 : Int32) (x4 <<< ((1 : Int32) &&& 31)) h1 e4) (wA_l q759) q760 q87 q761 hy_240 ⟨Nat.le_of_ble_eq_true rfl, Nat.le_of_ble_eq_true rfl⟩ rfl rfl (Nat.le_of_ble_eq_true rfl) dJ6_init_2_91 rfl (kS ?_) kN
  refine v_pfF (pc' := 97) hc_J6_init_2_n2 ho_J6_init_2_n2 rfl KJ6 0 (Nat.le_of_ble_eq_true rfl) q793 rfl rfl rfl dJ6_init_2_94 rfl rfl rfl e (fun h5 _ e => ?_)
  obtain ⟨rfl, rfl⟩ := ret_of e
  exact v_ret hc_J6_init_2_n2 rfl dJ6_init_2_97 rfl rfl
def f_J6_init_2_n2 (x0 : Nat) (x1 : Nat) (h : AH) : Option (Unit × AH) :=
  gd (isC h 18 x1) <|
  bd2 (f_J4_getValue x1 h) fun r2 h3 =>
  gd (isC h3 18 x1) <|
  bd2 (f_J5_length x1 h3) fun r6 h7 =>
  gd (isC h7 18 x1) <|
  bd2 (f_J4_isLatin1 x1 h7) fun r10 h11 =>
  if r10 = 0 then (
    bd (gtI h11 18 x1 2) fun v13 =>
    if v13 = 0 then (
      f_J6_init_2_n2_j79 x0 r2 r6 h11
    ) else (
      none
    )
  ) else (
    bd (stF h11 19 x0 1 (.int (0 : Int32))) fun h14 =>
    bd2 (f_J8_copyOfRange_2 r2 (0 : Int32) r6 h14) fun r15 h16 =>
    bd (stF h16 19 x0 0 (.ref r15)) fun h18 =>
    some ((), h18)
  )
theorem v_J6_init_2_n2 (D : va_G) (l : Launch) (hl : l.stackTraces = false) (as : List Value) (h0 : AH) {r : Unit} {hF : AH} (x0 : Nat) (x1 : Nat) (h : AH) (e : f_J6_init_2_n2 x0 x1 h = some (r, hF)) : V (G_J6_init_2_n2 D l as h0 hF (oV r)) h 0 [(0, .ref x0), (1, .ref x1), (2, .null)] [] := by
  unfold f_J6_init_2_n2 at e
  refine v_aload_n (pc' := 1) hc_J6_init_2_n2 dJ6_init_2_0 rfl rfl 0 rfl ?_
  refine v_oinit (pc' := 4) hc_J6_init_2_n2 ho_J6_init_2_n2 q751 q127 q128 ⟨Nat.le_of_ble_eq_true rfl, Nat.le_of_ble_eq_true rfl⟩ dJ6_init_2_1 rfl ?_
  refine v_aload_n (pc' := 5) hc_J6_init_2_n2 dJ6_init_2_4 rfl rfl 1 rfl ?_
  obtain ⟨c1, e⟩ := gd_of e
  obtain ⟨r2, h3, e4, e⟩ := bd2_of e
  refine k_V (pc' := 8) (ci := 18) (n := 0) hc_J6_init_2_n2 ho_J6_init_2_n2 rfl c1 (w_J4_getValue D l hl x1 h e4) (wA_l q752) q753 (wA_l q755) q81 q756 hy_236 ⟨Nat.le_of_ble_eq_true rfl, Nat.le_of_ble_eq_true rfl⟩ rfl rfl (Nat.le_of_ble_eq_true rfl) dJ6_init_2_5 rfl (kS ?_) kN
  refine v_astore_n (pc' := 9) (lv' := [(3, .ref r2), (0, .ref x0), (1, .ref x1), (2, .null)]) hc_J6_init_2_n2 dJ6_init_2_8 rfl rfl (Nat.le_of_ble_eq_true rfl) rfl ?_
  refine v_aload_n (pc' := 10) hc_J6_init_2_n2 dJ6_init_2_9 rfl rfl 2 rfl ?_
  obtain ⟨c5, e⟩ := gd_of e
  obtain ⟨r6, h7, e8, e⟩ := bd2_of e
  refine k_U (pc' := 13) (x := ⟨"java/lang/AbstractStringBuilder", "length", "()I"⟩) (y := ⟨"java/lang/StringBuilder", "length", "()I"⟩) (owner := "java/lang/AbstractStringBuilder") (ci := 18) (n := 0) hc_J6_init_2_n2 ho_J6_init_2_n2 rfl c5 (w_J5_length D l hl x1 h3 e8) (wA_l q757) (wA_l q2678) (Or.inr ⟨q538, _, _, _, q539⟩) q2687 q534 q82 q536 hy_237 ⟨Nat.le_of_ble_eq_true rfl, Nat.le_of_ble_eq_true rfl⟩ rfl rfl (Nat.le_of_ble_eq_true rfl) dJ6_init_2_10 rfl (kS ?_) kN
  refine v_istore (pc' := 15) (lv' := [(4, .int r6), (3, .ref r2), (0, .ref x0), (1, .ref x1), (2, .null)]) hc_J6_init_2_n2 dJ6_init_2_13 rfl (Nat.le_of_ble_eq_true rfl) rfl ?_
  refine v_aload_n (pc' := 16) hc_J6_init_2_n2 dJ6_init_2_15 rfl rfl 3 rfl ?_
  obtain ⟨c9, e⟩ := gd_of e
  obtain ⟨r10, h11, e12, e⟩ := bd2_of e
  refine k_V (pc' := 19) (ci := 18) (n := 0) hc_J6_init_2_n2 ho_J6_init_2_n2 rfl c9 (w_J4_isLatin1 D l hl x1 h7 e12) (wA_l q758) q639 (wA_l q641) q81 q642 hy_227 ⟨Nat.le_of_ble_eq_true rfl, Nat.le_of_ble_eq_true rfl⟩ rfl rfl (Nat.le_of_ble_eq_true rfl) dJ6_init_2_16 rfl (kS ?_) kN
  refine v_if_eq (pt := 41) (pf := 22) hc_J6_init_2_n2 dJ6_init_2_19 rfl rfl e (fun _ e => ?_) (fun _ e => ?_)
  · refine v_getsI (pc' := 44) (x := 1) hc_J6_init_2_n2 ho_J6_init_2_n2 (by decide +kernel) q704 dJ6_init_2_41 rfl ?_
    refine v_if_eqF (pt := 79) (pf := 47) hc_J6_init_2_n2 dJ6_init_2_44 rfl rfl (by decide) ?_
    refine v_aload_n (pc' := 48) hc_J6_init_2_n2 dJ6_init_2_47 rfl rfl 3 rfl ?_
    refine v_gfI (pc' := 51) hc_J6_init_2_n2 ho_J6_init_2_n2 KJ5 2 (Nat.le_of_ble_eq_true rfl) q222 (Or.inl rfl) dJ6_init_2_48 rfl e (fun v13 _ e => ?_)
    refine v_if_eq (pt := 79) (pf := 54) hc_J6_init_2_n2 dJ6_init_2_51 rfl rfl e (fun _ e => ?_) (fun _ e => ?_)
    · refine v_pick [2, 1, 0] rfl ?_
      exact w_J6_init_2_n2_j79 D l hl as h0 x0 r2 r6 h11 e
    · refine v_aload_n (pc' := 55) hc_J6_init_2_n2 dJ6_init_2_54 rfl rfl 2 rfl ?_
      refine v_aload_n (pc' := 56) hc_J6_init_2_n2 dJ6_init_2_55 rfl rfl 1 rfl ?_
      refine v_iconst (pc' := 57) (v := 0) hc_J6_init_2_n2 dJ6_init_2_56 rfl rfl ?_
      refine v_iload (pc' := 59) hc_J6_init_2_n2 dJ6_init_2_57 rfl 0 rfl ?_
      exact nomatch e
  · refine v_aload_n (pc' := 23) hc_J6_init_2_n2 dJ6_init_2_22 rfl rfl 2 rfl ?_
    refine v_iconst (pc' := 24) (v := 0) hc_J6_init_2_n2 dJ6_init_2_23 rfl rfl ?_
    refine v_pfF (pc' := 27) hc_J6_init_2_n2 ho_J6_init_2_n2 rfl KJ6 1 (Nat.le_of_ble_eq_true rfl) q794 rfl rfl rfl dJ6_init_2_24 rfl rfl rfl e (fun h14 _ e => ?_)
    refine v_aload_n (pc' := 28) hc_J6_init_2_n2 dJ6_init_2_27 rfl rfl 2 rfl ?_
    refine v_aload_n (pc' := 29) hc_J6_init_2_n2 dJ6_init_2_28 rfl rfl 1 rfl ?_
    refine v_iconst (pc' := 30) (v := 0) hc_J6_init_2_n2 dJ6_init_2_29 rfl rfl ?_
    refine v_iload (pc' := 32) hc_J6_init_2_n2 dJ6_init_2_30 rfl 0 rfl ?_
    obtain ⟨r15, h16, e17, e⟩ := bd2_of e
    refine k_S (pc' := 35) (n := 3) hc_J6_init_2_n2 ho_J6_init_2_n2 (w_J8_copyOfRange_2 D l hl r2 (0 : Int32) r6 h14 e17) (wA_l q759) q760 q87 q761 hy_240 ⟨Nat.le_of_ble_eq_true rfl, Nat.le_of_ble_eq_true rfl⟩ rfl rfl (Nat.le_of_ble_eq_true rfl) dJ6_init_2_32 rfl (kS ?_) kN
    refine v_pfF (pc' := 38) hc_J6_init_2_n2 ho_J6_init_2_n2 rfl KJ6 0 (Nat.le_of_ble_eq_true rfl) q793 rfl rfl rfl dJ6_init_2_35 rfl rfl rfl e (fun h18 _ e => ?_)
    refine v_goto (pt := 97) hc_J6_init_2_n2 dJ6_init_2_38 rfl ?_
    obtain ⟨rfl, rfl⟩ := ret_of e
    exact v_ret hc_J6_init_2_n2 rfl dJ6_init_2_97 rfl rfl
theorem w_J6_init_2_n2 (D : va_G) (l : Launch) (hl : l.stackTraces = false) (x0 : Nat) (x1 : Nat) (h : AH) {r : Unit} {hF : AH} (e : f_J6_init_2_n2 x0 x1 h = some (r, hF)) : MetV D l yJ6_init_2 (Cond.code yJ6_init_2 cJ6_init_2 5 (Option.none : Option FieldType)) 4 115 [.ref x0, .ref x1, .null] h hF (oV r) :=
  met_ofF (by decide +kernel) hl (Nat.le_of_ble_eq_true rfl) rfl (v_J6_init_2_n2 D l hl [.ref x0, .ref x1, .null] h x0 x1 h e)
/-! java/lang/String.<init>(Ljava/lang/StringBuilder;)V  -/
abbrev G_J6_init (D : va_G) (l : Launch) (as : List Value) (h0 hF : AH) (o : Out) : CT := (D, l, (yJ6_init.cls, yJ6_init, cJ6_init, 2, (Option.none : Option FieldType), 5, 139, []), as, h0, hF, o)
theorem hc_J6_init {D : va_G} {l : Launch} {as : List Value} {h0 hF : AH} {o : Out} : gC (G_J6_init D l as h0 hF o) = cJ6_init := rfl
theorem ho_J6_init {D : va_G} {l : Launch} {as : List Value} {h0 hF : AH} {o : Out} : gO (G_J6_init D l as h0 hF o) = "java/lang/String" := rfl
theorem hp_J6_init {D : va_G} {l : Launch} {as : List Value} {h0 hF : AH} {o : Out} (pc : Nat) : ∀ z ∈ tableOf (gHd (G_J6_init D l as h0 hF o)), covers z pc = false := hpN
def f_J6_init (x0 : Nat) (x1 : Nat) (h : AH) : Option (Unit × AH) :=
  bd2 (f_J6_init_2_n2 x0 x1 h) fun r1 h2 =>
  some ((), h2)
theorem v_J6_init (D : va_G) (l : Launch) (hl : l.stackTraces = false) (as : List Value) (h0 : AH) {r : Unit} {hF : AH} (x0 : Nat) (x1 : Nat) (h : AH) (e : f_J6_init x0 x1 h = some (r, hF)) : V (G_J6_init D l as h0 hF (oV r)) h 0 [(0, .ref x0), (1, .ref x1)] [] := by
  unfold f_J6_init at e
  refine v_aload_n (pc' := 1) hc_J6_init dJ6_init_0 rfl rfl 0 rfl ?_
  refine v_aload_n (pc' := 2) hc_J6_init dJ6_init_1 rfl rfl 1 rfl ?_
  refine v_null (pc' := 3) hc_J6_init dJ6_init_2 rfl ?_
  obtain ⟨r1, h2, e3, e⟩ := bd2_of e
  refine k_I (pc' := 6) (n := 2) hc_J6_init ho_J6_init (w_J6_init_2_n2 D l hl x0 x1 h e3) (wA_l q748) q749 q83 q750 rfl hy_241 ⟨Nat.le_of_ble_eq_true rfl, Nat.le_of_ble_eq_true rfl⟩ rfl rfl (Nat.le_of_ble_eq_true rfl) dJ6_init_3 rfl (kU ?_) kN
  obtain ⟨rfl, rfl⟩ := ret_of e
  exact v_ret hc_J6_init rfl dJ6_init_6 rfl rfl
theorem w_J6_init (D : va_G) (l : Launch) (hl : l.stackTraces = false) (x0 : Nat) (x1 : Nat) (h : AH) {r : Unit} {hF : AH} (e : f_J6_init x0 x1 h = some (r, hF)) : MetV D l yJ6_init (Cond.code yJ6_init cJ6_init 2 (Option.none : Option FieldType)) 5 139 [.ref x0, .ref x1] h hF (oV r) :=
  met_ofF (by decide +kernel) hl (Nat.le_of_ble_eq_true rfl) rfl (v_J6_init D l hl [.ref x0, .ref x1] h x0 x1 h e)
/-! java/lang/StringBuilder.toString()Ljava/lang/String;  -/
abbrev G_J5_toString (D : va_G) (l : Launch) (as : List Value) (h0 hF : AH) (o : Out) : CT := (D, l, (yJ5_toString.cls, yJ5_toString, cJ5_toString, 1, (Option.some (.object "java/lang/String")), 6, 160, []), as, h0, hF, o)
theorem hc_J5_toString {D : va_G} {l : Launch} {as : List Value} {h0 hF : AH} {o : Out} : gC (G_J5_toString D l as h0 hF o) = cJ5_toString := rfl
theorem ho_J5_toString {D : va_G} {l : Launch} {as : List Value} {h0 hF : AH} {o : Out} : gO (G_J5_toString D l as h0 hF o) = "java/lang/StringBuilder" := rfl
theorem hp_J5_toString {D : va_G} {l : Launch} {as : List Value} {h0 hF : AH} {o : Out} (pc : Nat) : ∀ z ∈ tableOf (gHd (G_J5_toString D l as h0 hF o)), covers z pc = false := hpN
def f_J5_toString (x0 : Nat) (h : AH) : Option (Nat × AH) :=
  bd2 (nwX h 19 4 fsJ6) fun a2 h1 =>
  bd2 (f_J6_init a2 x0 h1) fun r3 h4 =>
  some (a2, h4)
theorem v_J5_toString (D : va_G) (l : Launch) (hl : l.stackTraces = false) (as : List Value) (h0 : AH) {r : Nat} {hF : AH} (x0 : Nat) (h : AH) (e : f_J5_toString x0 h = some (r, hF)) : V (G_J5_toString D l as h0 hF (oR r)) h 0 [(0, .ref x0)] [] := by
  unfold f_J5_toString at e
  refine v_newX (pc' := 3) hc_J5_toString ho_J5_toString KJ6 q743 q744 q83 rfl dfJ6 dJ5_toString_0 rfl e (fun a2 h1 _ e => ?_)
  refine v_dup (pc' := 4) hc_J5_toString dJ5_toString_3 rfl rfl ?_
  refine v_aload_n (pc' := 5) hc_J5_toString dJ5_toString_4 rfl rfl 0 rfl ?_
  obtain ⟨r3, h4, e5, e⟩ := bd2_of e
  refine k_I (pc' := 8) (n := 1) hc_J5_toString ho_J5_toString (w_J6_init D l hl a2 x0 h1 e5) (wA_l q745) q746 q83 q747 rfl hy_242 ⟨Nat.le_of_ble_eq_true rfl, Nat.le_of_ble_eq_true rfl⟩ rfl rfl (Nat.le_of_ble_eq_true rfl) dJ5_toString_5 rfl (kU ?_) kN
  obtain ⟨rfl, rfl⟩ := ret_of e
  exact v_aret hc_J5_toString rfl (Or.inl ⟨_, rfl⟩) (Or.inr ⟨_, rfl⟩) dJ5_toString_8 rfl rfl
theorem w_J5_toString (D : va_G) (l : Launch) (hl : l.stackTraces = false) (x0 : Nat) (h : AH) {r : Nat} {hF : AH} (e : f_J5_toString x0 h = some (r, hF)) : MetV D l yJ5_toString (Cond.code yJ5_toString cJ5_toString 1 (Option.some (.object "java/lang/String"))) 6 160 [.ref x0] h hF (oR r) :=
  met_ofF (by decide +kernel) hl (Nat.le_of_ble_eq_true rfl) rfl (v_J5_toString D l hl [.ref x0] h x0 h e)
/-! java/lang/StringBuilder.append(Ljava/lang/String;)Ljava/lang/AbstractStringBuilder;  -/
abbrev G_J5_append_3 (D : va_G) (l : Launch) (as : List Value) (h0 hF : AH) (o : Out) : CT := (D, l, (yJ5_append_3.cls, yJ5_append_3, cJ5_append_3, 2, (Option.some (.object "java/lang/AbstractStringBuilder")), 7, 182, []), as, h0, hF, o)
theorem hc_J5_append_3 {D : va_G} {l : Launch} {as : List Value} {h0 hF : AH} {o : Out} : gC (G_J5_append_3 D l as h0 hF o) = cJ5_append_3 := rfl
theorem ho_J5_append_3 {D : va_G} {l : Launch} {as : List Value} {h0 hF : AH} {o : Out} : gO (G_J5_append_3 D l as h0 hF o) = "java/lang/StringBuilder" := rfl
theorem hp_J5_append_3 {D : va_G} {l : Launch} {as : List Value} {h0 hF : AH} {o : Out} (pc : Nat) : ∀ z ∈ tableOf (gHd (G_J5_append_3 D l as h0 hF o)), covers z pc = false := hpN
def f_J5_append_3 (x0 : Nat) (x1 : Nat) (h : AH) : Option (Nat × AH) :=
  gd (isC h 18 x0) <|
  bd2 (f_J5_append_2 x0 x1 h) fun r2 h3 =>
  some (r2, h3)
theorem v_J5_append_3 (D : va_G) (l : Launch) (hl : l.stackTraces = false) (as : List Value) (h0 : AH) {r : Nat} {hF : AH} (x0 : Nat) (x1 : Nat) (h : AH) (e : f_J5_append_3 x0 x1 h = some (r, hF)) : V (G_J5_append_3 D l as h0 hF (oR r)) h 0 [(0, .ref x0), (1, .ref x1)] [] := by
  unfold f_J5_append_3 at e
  refine v_aload_n (pc' := 1) hc_J5_append_3 dJ5_append_3_0 rfl rfl 0 rfl ?_
  refine v_aload_n (pc' := 2) hc_J5_append_3 dJ5_append_3_1 rfl rfl 1 rfl ?_
  obtain ⟨c1, e⟩ := gd_of e
  obtain ⟨r2, h3, e4, e⟩ := bd2_of e
  refine k_V (pc' := 5) (ci := 18) (n := 1) hc_J5_append_3 ho_J5_append_3 rfl c1 (w_J5_append_2 D l hl x0 x1 h e4) (wA_l q1750) q683 (wA_l q684) q82 q685 hy_235 ⟨Nat.le_of_ble_eq_true rfl, Nat.le_of_ble_eq_true rfl⟩ rfl rfl (Nat.le_of_ble_eq_true rfl) dJ5_append_3_2 rfl (kS ?_) kN
  obtain ⟨rfl, rfl⟩ := ret_of e
  exact v_aret hc_J5_append_3 rfl (Or.inl ⟨_, rfl⟩) (Or.inr ⟨_, rfl⟩) dJ5_append_3_5 rfl rfl
theorem w_J5_append_3 (D : va_G) (l : Launch) (hl : l.stackTraces = false) (x0 : Nat) (x1 : Nat) (h : AH) {r : Nat} {hF : AH} (e : f_J5_append_3 x0 x1 h = some (r, hF)) : MetV D l yJ5_append_3 (Cond.code yJ5_append_3 cJ5_append_3 2 (Option.some (.object "java/lang/AbstractStringBuilder"))) 7 182 [.ref x0, .ref x1] h hF (oR r) :=
  met_ofF (by decide +kernel) hl (Nat.le_of_ble_eq_true rfl) rfl (v_J5_append_3 D l hl [.ref x0, .ref x1] h x0 x1 h e)
/-! java/lang/StringUTF16.newBytesLength(I)I  -/
abbrev G_J7_newBytesLength (D : va_G) (l : Launch) (as : List Value) (h0 hF : AH) (o : Out) : CT := (D, l, (yJ7_newBytesLength.cls, yJ7_newBytesLength, cJ7_newBytesLength, 1, (Option.some .int), 1, 48, []), as, h0, hF, o)
theorem hc_J7_newBytesLength {D : va_G} {l : Launch} {as : List Value} {h0 hF : AH} {o : Out} : gC (G_J7_newBytesLength D l as h0 hF o) = cJ7_newBytesLength := rfl
theorem ho_J7_newBytesLength {D : va_G} {l : Launch} {as : List Value} {h0 hF : AH} {o : Out} : gO (G_J7_newBytesLength D l as h0 hF o) = "java/lang/StringUTF16" := rfl
theorem hp_J7_newBytesLength {D : va_G} {l : Launch} {as : List Value} {h0 hF : AH} {o : Out} (pc : Nat) : ∀ z ∈ tableOf (gHd (G_J7_newBytesLength D l as h0 hF o)), covers z pc = false := hpN
def f_J7_newBytesLength (x0 : Int32) (h : AH) : Option (Int32 × AH) :=
  if 0 ≤ x0 then (
    if x0 < (1073741823 : Int32) then (
      some ((x0 <<< ((1 : Int32) &&& 31)), h)
    ) else (
      none
    )
  ) else (
    none
  )
theorem v_J7_newBytesLength (D : va_G) (l : Launch) (hl : l.stackTraces = false) (as : List Value) (h0 : AH) {r : Int32} {hF : AH} (x0 : Int32) (h : AH) (e : f_J7_newBytesLength x0 h = some (r, hF)) : V (G_J7_newBytesLength D l as h0 hF (oI r)) h 0 [(0, .int x0)] [] := by
  unfold f_J7_newBytesLength at e
  refine v_iload_n (pc' := 1) hc_J7_newBytesLength dJ7_newBytesLength_0 rfl rfl 0 rfl ?_
  refine v_if_ge (pt := 12) (pf := 4) hc_J7_newBytesLength dJ7_newBytesLength_1 rfl rfl e (fun _ e => ?_) (fun _ e => ?_)
  · refine v_iload_n (pc' := 13) hc_J7_newBytesLength dJ7_newBytesLength_12 rfl rfl 0 rfl ?_
    refine v_ldcI (pc' := 15) (x := 1073741823) hc_J7_newBytesLength ho_J7_newBytesLength q218 dJ7_newBytesLength_13 rfl ?_
    refine v_icmp_lt (pt := 55) (pf := 18) hc_J7_newBytesLength dJ7_newBytesLength_15 rfl rfl e (fun _ e => ?_) (fun _ e => ?_)
    · refine v_iload_n (pc' := 56) hc_J7_newBytesLength dJ7_newBytesLength_55 rfl rfl 0 rfl ?_
      refine v_iconst (pc' := 57) (v := 1) hc_J7_newBytesLength dJ7_newBytesLength_56 rfl rfl ?_
      refine v_ishl (pc' := 58) hc_J7_newBytesLength dJ7_newBytesLength_57 rfl ?_
      obtain ⟨rfl, rfl⟩ := ret_of e
      exact v_iret hc_J7_newBytesLength rfl dJ7_newBytesLength_58 rfl rfl
    · exact nomatch e
  · exact nomatch e
theorem w_J7_newBytesLength (D : va_G) (l : Launch) (hl : l.stackTraces = false) (x0 : Int32) (h : AH) {r : Int32} {hF : AH} (e : f_J7_newBytesLength x0 h = some (r, hF)) : MetV D l yJ7_newBytesLength (Cond.code yJ7_newBytesLength cJ7_newBytesLength 1 (Option.some .int)) 1 48 [.int x0] h hF (oI r) :=
  met_ofF (by decide +kernel) hl (Nat.le_of_ble_eq_true rfl) rfl (v_J7_newBytesLength D l hl [.int x0] h x0 h e)
/-! java/lang/StringUTF16.newBytesFor(I)[B  -/
abbrev G_J7_newBytesFor (D : va_G) (l : Launch) (as : List Value) (h0 hF : AH) (o : Out) : CT := (D, l, (yJ7_newBytesFor.cls, yJ7_newBytesFor, cJ7_newBytesFor, 1, (Option.some (.array .byte)), 2, 68, []), as, h0, hF, o)
theorem hc_J7_newBytesFor {D : va_G} {l : Launch} {as : List Value} {h0 hF : AH} {o : Out} : gC (G_J7_newBytesFor D l as h0 hF o) = cJ7_newBytesFor := rfl
theorem ho_J7_newBytesFor {D : va_G} {l : Launch} {as : List Value} {h0 hF : AH} {o : Out} : gO (G_J7_newBytesFor D l as h0 hF o) = "java/lang/StringUTF16" := rfl
theorem hp_J7_newBytesFor {D : va_G} {l : Launch} {as : List Value} {h0 hF : AH} {o : Out} (pc : Nat) : ∀ z ∈ tableOf (gHd (G_J7_newBytesFor D l as h0 hF o)), covers z pc = false := hpN
def f_J7_newBytesFor (x0 : Int32) (h : AH) : Option (Nat × AH) :=
  bd2 (f_J7_newBytesLength x0 h) fun r1 h2 =>
  bd2 (nwA h2 3 r1) fun a4 h5 =>
  some (a4, h5)
theorem v_J7_newBytesFor (D : va_G) (l : Launch) (hl : l.stackTraces = false) (as : List Value) (h0 : AH) {r : Nat} {hF : AH} (x0 : Int32) (h : AH) (e : f_J7_newBytesFor x0 h = some (r, hF)) : V (G_J7_newBytesFor D l as h0 hF (oR r)) h 0 [(0, .int x0)] [] := by
  unfold f_J7_newBytesFor at e
  refine v_iload_n (pc' := 1) hc_J7_newBytesFor dJ7_newBytesFor_0 rfl rfl 0 rfl ?_
  obtain ⟨r1, h2, e3, e⟩ := bd2_of e
  refine k_S (pc' := 4) (n := 1) hc_J7_newBytesFor ho_J7_newBytesFor (w_J7_newBytesLength D l hl x0 h e3) (wA_l q215) q216 q84 q217 hy_244 ⟨Nat.le_of_ble_eq_true rfl, Nat.le_of_ble_eq_true rfl⟩ rfl rfl (Nat.le_of_ble_eq_true rfl) dJ7_newBytesFor_1 rfl (kS ?_) kN
  refine v_newa (pc' := 6) (k := 3) (at0 := .byte) hc_J7_newBytesFor rfl (by decide) q233 dJ7_newBytesFor_4 rfl e (fun a4 h5 _ e => ?_)
  obtain ⟨rfl, rfl⟩ := ret_of e
  exact v_aret hc_J7_newBytesFor rfl (Or.inr ⟨_, rfl⟩) (Or.inr ⟨_, rfl⟩) dJ7_newBytesFor_6 rfl rfl
theorem w_J7_newBytesFor (D : va_G) (l : Launch) (hl : l.stackTraces = false) (x0 : Int32) (h : AH) {r : Nat} {hF : AH} (e : f_J7_newBytesFor x0 h = some (r, hF)) : MetV D l yJ7_newBytesFor (Cond.code yJ7_newBytesFor cJ7_newBytesFor 1 (Option.some (.array .byte))) 2 68 [.int x0] h hF (oR r) :=
  met_ofF (by decide +kernel) hl (Nat.le_of_ble_eq_true rfl) rfl (v_J7_newBytesFor D l hl [.int x0] h x0 h e)
/-! java/lang/AbstractStringBuilder.<init>(Ljava/lang/String;)V  -/
abbrev G_J4_init_2 (D : va_G) (l : Launch) (as : List Value) (h0 hF : AH) (o : Out) : CT := (D, l, (yJ4_init_2.cls, yJ4_init_2, cJ4_init_2, 5, (Option.none : Option FieldType), 8, 203, []), as, h0, hF, o)
theorem hc_J4_init_2 {D : va_G} {l : Launch} {as : List Value} {h0 hF : AH} {o : Out} : gC (G_J4_init_2 D l as h0 hF o) = cJ4_init_2 := rfl
theorem ho_J4_init_2 {D : va_G} {l : Launch} {as : List Value} {h0 hF : AH} {o : Out} : gO (G_J4_init_2 D l as h0 hF o) = "java/lang/AbstractStringBuilder" := rfl
theorem hp_J4_init_2 {D : va_G} {l : Launch} {as : List Value} {h0 hF : AH} {o : Out} (pc : Nat) : ∀ z ∈ tableOf (gHd (G_J4_init_2 D l as h0 hF o)), covers z pc = false := hpN
def f_J4_init_2_j24 (x0 : Nat) (x1 : Nat) (s0 : Int32) (h : AH) : Option (Unit × AH) :=
  gd (isC h 19 x1) <|
  bd2 (f_J6_coder x1 h) fun r2 h3 =>
  gd (nrw .byte r2) <|
  bd (stF h3 18 x0 1 (.int r2)) fun h6 =>
  if r2 = 0 then (
    bd2 (nwA h6 3 s0) fun a7 h8 =>
    bd (stF h8 18 x0 0 (.ref a7)) fun h9 =>
    gd (isC h9 18 x0) <|
    bd2 (f_J5_append_3 x0 x1 h9) fun r11 h12 =>
    some ((), h12)
  ) else (
    bd2 (f_J7_newBytesFor s0 h6) fun r14 h15 =>
    bd (stF h15 18 x0 0 (.ref r14)) fun h17 =>
    gd (isC h17 18 x0) <|
    bd2 (f_J5_append_3 x0 x1 h17) fun r19 h20 =>
    some ((), h20)
  )
theorem w_J4_init_2_j24 (D : va_G) (l : Launch) (hl : l.stackTraces = false) (as : List Value) (h0 : AH) {r : Unit} {hF : AH} (x0 : Nat) (x1 : Nat) (s0 : Int32) (h : AH) (e : f_J4_init_2_j24 x0 x1 s0 h = some (r, hF)) : V (G_J4_init_2 D l as h0 hF (oV r)) h 24 [(0, .ref x0), (1, .ref x1)] [.int s0] := by
  unfold f_J4_init_2_j24 at e
  refine v_istore_n (pc' := 25) (lv' := [(3, .int s0), (0, .ref x0), (1, .ref x1)]) hc_J4_init_2 dJ4_init_2_24 rfl rfl (Nat.le_of_ble_eq_true rfl) rfl ?_
  refine v_aload_n (pc' := 26) hc_J4_init_2 dJ4_init_2_25 rfl rfl 2 rfl ?_
  obtain ⟨c1, e⟩ := gd_of e
  obtain ⟨r2, h3, e4, e⟩ := bd2_of e
  refine k_V (pc' := 29) (ci := 19) (n := 0) hc_J4_init_2 ho_J4_init_2 rfl c1 (w_J6_coder D l hl x1 h e4) (wA_l q713) q701 (wA_l q702) q83 q703 hy_231 ⟨Nat.le_of_ble_eq_true rfl, Nat.le_of_ble_eq_true rfl⟩ rfl rfl (Nat.le_of_ble_eq_true rfl) dJ4_init_2_26 rfl (kS ?_) kN
  refine v_istore (pc' := 31) (lv' := [(4, .int r2), (3, .int s0), (0, .ref x0), (1, .ref x1)]) hc_J4_init_2 dJ4_init_2_29 rfl (Nat.le_of_ble_eq_true rfl) rfl ?_
  refine v_aload_n (pc' := 32) hc_J4_init_2 dJ4_init_2_31 rfl rfl 2 rfl ?_
  refine v_iload (pc' := 34) hc_J4_init_2 dJ4_init_2_32 rfl 0 rfl ?_
  obtain ⟨c5, e⟩ := gd_of e
  refine v_pf (pc' := 37) hc_J4_init_2 ho_J4_init_2 KJ5 1 (Nat.le_of_ble_eq_true rfl) q220 (Or.inl rfl) rfl dJ4_init_2_34 rfl (nrw_of c5) (fit_of c5) e (fun h6 _ e => ?_)
  refine v_aload_n (pc' := 38) hc_J4_init_2 dJ4_init_2_37 rfl rfl 2 rfl ?_
  refine v_iload (pc' := 40) hc_J4_init_2 dJ4_init_2_38 rfl 0 rfl ?_
  refine v_if_ne (pt := 49) (pf := 43) hc_J4_init_2 dJ4_init_2_40 rfl rfl e (fun _ e => ?_) (fun _ e => ?_)
  · refine v_iload_n (pc' := 44) hc_J4_init_2 dJ4_init_2_43 rfl rfl 1 rfl ?_
    refine v_newa (pc' := 46) (k := 3) (at0 := .byte) hc_J4_init_2 rfl (by decide) q233 dJ4_init_2_44 rfl e (fun a7 h8 _ e => ?_)
    refine v_goto (pt := 53) hc_J4_init_2 dJ4_init_2_46 rfl ?_
    refine v_pf (pc' := 56) hc_J4_init_2 ho_J4_init_2 KJ5 0 (Nat.le_of_ble_eq_true rfl) q219 (Or.inl rfl) rfl dJ4_init_2_53 rfl rfl rfl e (fun h9 _ e => ?_)
    refine v_aload_n (pc' := 57) hc_J4_init_2 dJ4_init_2_56 rfl rfl 2 rfl ?_
    refine v_aload_n (pc' := 58) hc_J4_init_2 dJ4_init_2_57 rfl rfl 3 rfl ?_
    obtain ⟨c10, e⟩ := gd_of e
    obtain ⟨r11, h12, e13, e⟩ := bd2_of e
    refine k_U (pc' := 61) (x := ⟨"java/lang/AbstractStringBuilder", "append", "(Ljava/lang/String;)Ljava/lang/AbstractStringBuilder;"⟩) (y := ⟨"java/lang/StringBuilder", "append", "(Ljava/lang/String;)Ljava/lang/AbstractStringBuilder;"⟩) (owner := "java/lang/AbstractStringBuilder") (ci := 18) (n := 1) hc_J4_init_2 ho_J4_init_2 rfl c10 (w_J5_append_3 D l hl x0 x1 h9 e13) (wA_l q1747) (wA_l q2682) (Or.inr ⟨q687, _, _, _, q688⟩) q2688 q1748 q82 q1749 hy_234 ⟨Nat.le_of_ble_eq_true rfl, Nat.le_of_ble_eq_true rfl⟩ rfl rfl (Nat.le_of_ble_eq_true rfl) dJ4_init_2_58 rfl (kS ?_) kN
    refine v_pop (pc' := 62) hc_J4_init_2 dJ4_init_2_61 rfl rfl ?_
    obtain ⟨rfl, rfl⟩ := ret_of e
    exact v_ret hc_J4_init_2 rfl dJ4_init_2_62 rfl rfl
  · refine v_iload_n (pc' := 50) hc_J4_init_2 dJ4_init_2_49 rfl rfl 1 rfl ?_
    obtain ⟨r14, h15, e16, e⟩ := bd2_of e
    refine k_S (pc' := 53) (n := 1) hc_J4_init_2 ho_J4_init_2 (w_J7_newBytesFor D l hl s0 h6 e16) (wA_l q212) q213 q84 q214 hy_245 ⟨Nat.le_of_ble_eq_true rfl, Nat.le_of_ble_eq_true rfl⟩ rfl rfl (Nat.le_of_ble_eq_true rfl) dJ4_init_2_50 rfl (kS ?_) kN
    refine v_pf (pc' := 56) hc_J4_init_2 ho_J4_init_2 KJ5 0 (Nat.le_of_ble_eq_true rfl) q219 (Or.inl rfl) rfl dJ4_init_2_53 rfl rfl rfl e (fun h17 _ e => ?_)
    refine v_aload_n (pc' := 57) hc_J4_init_2 dJ4_init_2_56 rfl rfl 2 rfl ?_
    refine v_aload_n (pc' := 58) hc_J4_init_2 dJ4_init_2_57 rfl rfl 3 rfl ?_
    obtain ⟨c18, e⟩ := gd_of e
    obtain ⟨r19, h20, e21, e⟩ := bd2_of e
    refine k_U (pc' := 61) (x := ⟨"java/lang/AbstractStringBuilder", "append", "(Ljava/lang/String;)Ljava/lang/AbstractStringBuilder;"⟩) (y := ⟨"java/lang/StringBuilder", "append", "(Ljava/lang/String;)Ljava/lang/AbstractStringBuilder;"⟩) (owner := "java/lang/AbstractStringBuilder") (ci := 18) (n := 1) hc_J4_init_2 ho_J4_init_2 rfl c18 (w_J5_append_3 D l hl x0 x1 h17 e21) (wA_l q1747) (wA_l q2682) (Or.inr ⟨q687, _, _, _, q688⟩) q2688 q1748 q82 q1749 hy_234 ⟨Nat.le_of_ble_eq_true rfl, Nat.le_of_ble_eq_true rfl⟩ rfl rfl (Nat.le_of_ble_eq_true rfl) dJ4_init_2_58 rfl (kS ?_) kN
    refine v_pop (pc' := 62) hc_J4_init_2 dJ4_init_2_61 rfl rfl ?_
    obtain ⟨rfl, rfl⟩ := ret_of e
    exact v_ret hc_J4_init_2 rfl dJ4_init_2_62 rfl rfl
def f_J4_init_2 (x0 : Nat) (x1 : Nat) (h : AH) : Option (Unit × AH) :=
  gd (isC h 19 x1) <|
  bd2 (f_J6_length x1 h) fun r2 h3 =>
  if (2147483631 : Int32) ≤ r2 then (
    f_J4_init_2_j24 x0 x1 (2147483647 : Int32) h3
  ) else (
    f_J4_init_2_j24 x0 x1 (r2 + (16 : Int32)) h3
  )
theorem v_J4_init_2 (D : va_G) (l : Launch) (hl : l.stackTraces = false) (as : List Value) (h0 : AH) {r : Unit} {hF : AH} (x0 : Nat) (x1 : Nat) (h : AH) (e : f_J4_init_2 x0 x1 h = some (r, hF)) : V (G_J4_init_2 D l as h0 hF (oV r)) h 0 [(0, .ref x0), (1, .ref x1)] [] := by
  unfold f_J4_init_2 at e
  refine v_aload_n (pc' := 1) hc_J4_init_2 dJ4_init_2_0 rfl rfl 0 rfl ?_
  refine v_oinit (pc' := 4) hc_J4_init_2 ho_J4_init_2 q209 q127 q128 ⟨Nat.le_of_ble_eq_true rfl, Nat.le_of_ble_eq_true rfl⟩ dJ4_init_2_1 rfl ?_
  refine v_aload_n (pc' := 5) hc_J4_init_2 dJ4_init_2_4 rfl rfl 1 rfl ?_
  obtain ⟨c1, e⟩ := gd_of e
  obtain ⟨r2, h3, e4, e⟩ := bd2_of e
  refine k_V (pc' := 8) (ci := 19) (n := 0) hc_J4_init_2 ho_J4_init_2 rfl c1 (w_J6_length D l hl x1 h e4) (wA_l q696) q697 (wA_l q698) q83 q699 hy_232 ⟨Nat.le_of_ble_eq_true rfl, Nat.le_of_ble_eq_true rfl⟩ rfl rfl (Nat.le_of_ble_eq_true rfl) dJ4_init_2_5 rfl (kS ?_) kN
  refine v_istore_n (pc' := 9) (lv' := [(2, .int r2), (0, .ref x0), (1, .ref x1)]) hc_J4_init_2 dJ4_init_2_8 rfl rfl (Nat.le_of_ble_eq_true rfl) rfl ?_
  refine v_iload_n (pc' := 10) hc_J4_init_2 dJ4_init_2_9 rfl rfl 0 rfl ?_
  refine v_ldcI (pc' := 12) (x := 2147483631) hc_J4_init_2 ho_J4_init_2 q1746 dJ4_init_2_10 rfl ?_
  refine v_icmp_ge (pt := 22) (pf := 15) hc_J4_init_2 dJ4_init_2_12 rfl rfl e (fun _ e => ?_) (fun _ e => ?_)
  · refine v_ldcI (pc' := 24) (x := 2147483647) hc_J4_init_2 ho_J4_init_2 q621 dJ4_init_2_22 rfl ?_
    refine v_pick [1, 2] rfl ?_
    exact w_J4_init_2_j24 D l hl as h0 x0 x1 (2147483647 : Int32) h3 e
  · refine v_iload_n (pc' := 16) hc_J4_init_2 dJ4_init_2_15 rfl rfl 0 rfl ?_
    refine v_bipush (pc' := 18) (v := 16) hc_J4_init_2 dJ4_init_2_16 rfl rfl ?_
    refine v_iadd (pc' := 19) hc_J4_init_2 dJ4_init_2_18 rfl ?_
    refine v_goto (pt := 24) hc_J4_init_2 dJ4_init_2_19 rfl ?_
    refine v_pick [1, 2] rfl ?_
    exact w_J4_init_2_j24 D l hl as h0 x0 x1 (r2 + (16 : Int32)) h3 e
theorem w_J4_init_2 (D : va_G) (l : Launch) (hl : l.stackTraces = false) (x0 : Nat) (x1 : Nat) (h : AH) {r : Unit} {hF : AH} (e : f_J4_init_2 x0 x1 h = some (r, hF)) : MetV D l yJ4_init_2 (Cond.code yJ4_init_2 cJ4_init_2 5 (Option.none : Option FieldType)) 8 203 [.ref x0, .ref x1] h hF (oV r) :=
  met_ofF (by decide +kernel) hl (Nat.le_of_ble_eq_true rfl) rfl (v_J4_init_2 D l hl [.ref x0, .ref x1] h x0 x1 h e)
/-! java/lang/StringBuilder.<init>(Ljava/lang/String;)V  -/
abbrev G_J5_init_2 (D : va_G) (l : Launch) (as : List Value) (h0 hF : AH) (o : Out) : CT := (D, l, (yJ5_init_2.cls, yJ5_init_2, cJ5_init_2, 2, (Option.none : Option FieldType), 9, 227, []), as, h0, hF, o)
theorem hc_J5_init_2 {D : va_G} {l : Launch} {as : List Value} {h0 hF : AH} {o : Out} : gC (G_J5_init_2 D l as h0 hF o) = cJ5_init_2 := rfl
theorem ho_J5_init_2 {D : va_G} {l : Launch} {as : List Value} {h0 hF : AH} {o : Out} : gO (G_J5_init_2 D l as h0 hF o) = "java/lang/StringBuilder" := rfl
theorem hp_J5_init_2 {D : va_G} {l : Launch} {as : List Value} {h0 hF : AH} {o : Out} (pc : Nat) : ∀ z ∈ tableOf (gHd (G_J5_init_2 D l as h0 hF o)), covers z pc = false := hpN
def f_J5_init_2 (x0 : Nat) (x1 : Nat) (h : AH) : Option (Unit × AH) :=
  bd2 (f_J4_init_2 x0 x1 h) fun r1 h2 =>
  some ((), h2)
theorem v_J5_init_2 (D : va_G) (l : Launch) (hl : l.stackTraces = false) (as : List Value) (h0 : AH) {r : Unit} {hF : AH} (x0 : Nat) (x1 : Nat) (h : AH) (e : f_J5_init_2 x0 x1 h = some (r, hF)) : V (G_J5_init_2 D l as h0 hF (oV r)) h 0 [(0, .ref x0), (1, .ref x1)] [] := by
  unfold f_J5_init_2 at e
  refine v_aload_n (pc' := 1) hc_J5_init_2 dJ5_init_2_0 rfl rfl 0 rfl ?_
  refine v_aload_n (pc' := 2) hc_J5_init_2 dJ5_init_2_1 rfl rfl 1 rfl ?_
  obtain ⟨r1, h2, e3, e⟩ := bd2_of e
  refine k_I (pc' := 5) (n := 1) hc_J5_init_2 ho_J5_init_2 (w_J4_init_2 D l hl x0 x1 h e3) (wA_l q1743) q1744 q81 q1745 rfl hy_246 ⟨Nat.le_of_ble_eq_true rfl, Nat.le_of_ble_eq_true rfl⟩ rfl rfl (Nat.le_of_ble_eq_true rfl) dJ5_init_2_2 rfl (kU ?_) kN
  obtain ⟨rfl, rfl⟩ := ret_of e
  exact v_ret hc_J5_init_2 rfl dJ5_init_2_5 rfl rfl
theorem w_J5_init_2 (D : va_G) (l : Launch) (hl : l.stackTraces = false) (x0 : Nat) (x1 : Nat) (h : AH) {r : Unit} {hF : AH} (e : f_J5_init_2 x0 x1 h = some (r, hF)) : MetV D l yJ5_init_2 (Cond.code yJ5_init_2 cJ5_init_2 2 (Option.none : Option FieldType)) 9 227 [.ref x0, .ref x1] h hF (oV r) :=
  met_ofF (by decide +kernel) hl (Nat.le_of_ble_eq_true rfl) rfl (v_J5_init_2 D l hl [.ref x0, .ref x1] h x0 x1 h e)
/-! java/lang/AbstractStringBuilder.append(Ljava/lang/CharSequence;)Ljava/lang/AbstractStringBuilder;  -/
abbrev G_J4_append_3 (D : va_G) (l : Launch) (as : List Value) (h0 hF : AH) (o : Out) : CT := (D, l, (yJ4_append_3.cls, yJ4_append_3, cJ4_append_3, 2, (Option.some (.object "java/lang/AbstractStringBuilder")), 8, 203, []), as, h0, hF, o)
theorem hc_J4_append_3 {D : va_G} {l : Launch} {as : List Value} {h0 hF : AH} {o : Out} : gC (G_J4_append_3 D l as h0 hF o) = cJ4_append_3 := rfl
theorem ho_J4_append_3 {D : va_G} {l : Launch} {as : List Value} {h0 hF : AH} {o : Out} : gO (G_J4_append_3 D l as h0 hF o) = "java/lang/AbstractStringBuilder" := rfl
theorem hp_J4_append_3 {D : va_G} {l : Launch} {as : List Value} {h0 hF : AH} {o : Out} (pc : Nat) : ∀ z ∈ tableOf (gHd (G_J4_append_3 D l as h0 hF o)), covers z pc = false := hpN
def f_J4_append_3 (x0 : Nat) (x1 : Nat) (h : AH) : Option (Nat × AH) :=
  if isC h 19 x1 = true then (
    gd (isC h 19 x1) <|
    gd (isC h 18 x0) <|
    bd2 (f_J5_append_3 x0 x1 h) fun r3 h4 =>
    some (r3, h4)
  ) else (
  none)
theorem v_J4_append_3 (D : va_G) (l : Launch) (hl : l.stackTraces = false) (as : List Value) (h0 : AH) {r : Nat} {hF : AH} (x0 : Nat) (x1 : Nat) (h : AH) (e : f_J4_append_3 x0 x1 h = some (r, hF)) : V (G_J4_append_3 D l as h0 hF (oR r)) h 0 [(0, .ref x0), (1, .ref x1)] [] := by
  unfold f_J4_append_3 at e
  refine v_aload_n (pc' := 1) hc_J4_append_3 dJ4_append_3_0 rfl rfl 1 rfl ?_
  refine v_ifnonnull (pt := 9) hc_J4_append_3 dJ4_append_3_1 rfl ?_
  refine v_aload_n (pc' := 10) hc_J4_append_3 dJ4_append_3_9 rfl rfl 1 rfl ?_
  rcases ite_cs e with ⟨c6, e⟩ | ⟨_, e⟩
  · refine v_inst (pc' := 13) (ci := 19) hc_J4_append_3 ho_J4_append_3 rfl q1765 (Or.inl rfl) dJ4_append_3_10 rfl c6 ?_
    refine v_if_eqF (pt := 25) (pf := 16) hc_J4_append_3 dJ4_append_3_13 rfl rfl (by decide) ?_
    refine v_aload_n (pc' := 17) hc_J4_append_3 dJ4_append_3_16 rfl rfl 0 rfl ?_
    refine v_aload_n (pc' := 18) hc_J4_append_3 dJ4_append_3_17 rfl rfl 1 rfl ?_
    obtain ⟨c1, e⟩ := gd_of e
    refine v_cast (pc' := 21) (ci := 19) hc_J4_append_3 ho_J4_append_3 rfl q1765 (Or.inl rfl) dJ4_append_3_18 rfl c1 ?_
    obtain ⟨c2, e⟩ := gd_of e
    obtain ⟨r3, h4, e5, e⟩ := bd2_of e
    refine k_U (pc' := 24) (x := ⟨"java/lang/AbstractStringBuilder", "append", "(Ljava/lang/String;)Ljava/lang/AbstractStringBuilder;"⟩) (y := ⟨"java/lang/StringBuilder", "append", "(Ljava/lang/String;)Ljava/lang/AbstractStringBuilder;"⟩) (owner := "java/lang/AbstractStringBuilder") (ci := 18) (n := 1) hc_J4_append_3 ho_J4_append_3 rfl c2 (w_J5_append_3 D l hl x0 x1 h e5) (wA_l q1747) (wA_l q2682) (Or.inr ⟨q687, _, _, _, q688⟩) q2688 q1748 q82 q1749 hy_234 ⟨Nat.le_of_ble_eq_true rfl, Nat.le_of_ble_eq_true rfl⟩ rfl rfl (Nat.le_of_ble_eq_true rfl) dJ4_append_3_21 rfl (kS ?_) kN
    obtain ⟨rfl, rfl⟩ := ret_of e
    exact v_aret hc_J4_append_3 rfl (Or.inl ⟨_, rfl⟩) (Or.inr ⟨_, rfl⟩) dJ4_append_3_24 rfl rfl
  exact nomatch e
theorem w_J4_append_3 (D : va_G) (l : Launch) (hl : l.stackTraces = false) (x0 : Nat) (x1 : Nat) (h : AH) {r : Nat} {hF : AH} (e : f_J4_append_3 x0 x1 h = some (r, hF)) : MetV D l yJ4_append_3 (Cond.code yJ4_append_3 cJ4_append_3 2 (Option.some (.object "java/lang/AbstractStringBuilder"))) 8 203 [.ref x0, .ref x1] h hF (oR r) :=
  met_ofF (by decide +kernel) hl (Nat.le_of_ble_eq_true rfl) rfl (v_J4_append_3 D l hl [.ref x0, .ref x1] h x0 x1 h e)
/-! java/lang/StringBuilder.append(Ljava/lang/CharSequence;)Ljava/lang/StringBuilder;  -/
abbrev G_J5_append_4 (D : va_G) (l : Launch) (as : List Value) (h0 hF : AH) (o : Out) : CT := (D, l, (yJ5_append_4.cls, yJ5_append_4, cJ5_append_4, 2, (Option.some (.object "java/lang/StringBuilder")), 9, 224, []), as, h0, hF, o)
theorem hc_J5_append_4 {D : va_G} {l : Launch} {as : List Value} {h0 hF : AH} {o : Out} : gC (G_J5_append_4 D l as h0 hF o) = cJ5_append_4 := rfl
theorem ho_J5_append_4 {D : va_G} {l : Launch} {as : List Value} {h0 hF : AH} {o : Out} : gO (G_J5_append_4 D l as h0 hF o) = "java/lang/StringBuilder" := rfl
theorem hp_J5_append_4 {D : va_G} {l : Launch} {as : List Value} {h0 hF : AH} {o : Out} (pc : Nat) : ∀ z ∈ tableOf (gHd (G_J5_append_4 D l as h0 hF o)), covers z pc = false := hpN
def f_J5_append_4 (x0 : Nat) (x1 : Nat) (h : AH) : Option (Nat × AH) :=
  gd (isC h 18 x0) <|
  bd2 (f_J4_append_3 x0 x1 h) fun r2 h3 =>
  some (x0, h3)
theorem v_J5_append_4 (D : va_G) (l : Launch) (hl : l.stackTraces = false) (as : List Value) (h0 : AH) {r : Nat} {hF : AH} (x0 : Nat) (x1 : Nat) (h : AH) (e : f_J5_append_4 x0 x1 h = some (r, hF)) : V (G_J5_append_4 D l as h0 hF (oR r)) h 0 [(0, .ref x0), (1, .ref x1)] [] := by
  unfold f_J5_append_4 at e
  refine v_aload_n (pc' := 1) hc_J5_append_4 dJ5_append_4_0 rfl rfl 0 rfl ?_
  refine v_aload_n (pc' := 2) hc_J5_append_4 dJ5_append_4_1 rfl rfl 1 rfl ?_
  obtain ⟨c1, e⟩ := gd_of e
  obtain ⟨r2, h3, e4, e⟩ := bd2_of e
  refine k_SU (pc' := 5) (x := ⟨"java/lang/AbstractStringBuilder", "append", "(Ljava/lang/CharSequence;)Ljava/lang/AbstractStringBuilder;"⟩) (ci := 18) (n := 1) hc_J5_append_4 ho_J5_append_4 rfl c1 (w_J4_append_3 D l hl x0 x1 h e4) (by decide +kernel) (wA_l q1762) (wA_l q2689) q232 q1763 q81 q1764 hy_249 ⟨Nat.le_of_ble_eq_true rfl, Nat.le_of_ble_eq_true rfl⟩ rfl rfl (Nat.le_of_ble_eq_true rfl) dJ5_append_4_2 rfl (kS ?_) kN
  refine v_pop (pc' := 6) hc_J5_append_4 dJ5_append_4_5 rfl rfl ?_
  refine v_aload_n (pc' := 7) hc_J5_append_4 dJ5_append_4_6 rfl rfl 0 rfl ?_
  obtain ⟨rfl, rfl⟩ := ret_of e
  exact v_aret hc_J5_append_4 rfl (Or.inl ⟨_, rfl⟩) (Or.inr ⟨_, rfl⟩) dJ5_append_4_7 rfl rfl
theorem w_J5_append_4 (D : va_G) (l : Launch) (hl : l.stackTraces = false) (x0 : Nat) (x1 : Nat) (h : AH) {r : Nat} {hF : AH} (e : f_J5_append_4 x0 x1 h = some (r, hF)) : MetV D l yJ5_append_4 (Cond.code yJ5_append_4 cJ5_append_4 2 (Option.some (.object "java/lang/StringBuilder"))) 9 224 [.ref x0, .ref x1] h hF (oR r) :=
  met_ofF (by decide +kernel) hl (Nat.le_of_ble_eq_true rfl) rfl (v_J5_append_4 D l hl [.ref x0, .ref x1] h x0 x1 h e)
/-! java/lang/StringUTF16.length([B)I  -/
abbrev G_J7_length (D : va_G) (l : Launch) (as : List Value) (h0 hF : AH) (o : Out) : CT := (D, l, (yJ7_length.cls, yJ7_length, cJ7_length, 1, (Option.some .int), 1, 48, []), as, h0, hF, o)
theorem hc_J7_length {D : va_G} {l : Launch} {as : List Value} {h0 hF : AH} {o : Out} : gC (G_J7_length D l as h0 hF o) = cJ7_length := rfl
theorem ho_J7_length {D : va_G} {l : Launch} {as : List Value} {h0 hF : AH} {o : Out} : gO (G_J7_length D l as h0 hF o) = "java/lang/StringUTF16" := rfl
theorem hp_J7_length {D : va_G} {l : Launch} {as : List Value} {h0 hF : AH} {o : Out} (pc : Nat) : ∀ z ∈ tableOf (gHd (G_J7_length D l as h0 hF o)), covers z pc = false := hpN
def f_J7_length (x0 : Nat) (h : AH) : Option (Int32 × AH) :=
  bd (aLn h x0) fun v1 =>
  some ((v1 >>> ((1 : Int32) &&& 31)), h)
theorem v_J7_length (D : va_G) (l : Launch) (hl : l.stackTraces = false) (as : List Value) (h0 : AH) {r : Int32} {hF : AH} (x0 : Nat) (h : AH) (e : f_J7_length x0 h = some (r, hF)) : V (G_J7_length D l as h0 hF (oI r)) h 0 [(0, .ref x0)] [] := by
  unfold f_J7_length at e
  refine v_aload_n (pc' := 1) hc_J7_length dJ7_length_0 rfl rfl 0 rfl ?_
  refine v_alen (pc' := 2) hc_J7_length dJ7_length_1 rfl e (fun v1 _ e => ?_)
  refine v_iconst (pc' := 3) (v := 1) hc_J7_length dJ7_length_2 rfl rfl ?_
  refine v_ishr (pc' := 4) hc_J7_length dJ7_length_3 rfl ?_
  obtain ⟨rfl, rfl⟩ := ret_of e
  exact v_iret hc_J7_length rfl dJ7_length_4 rfl rfl
theorem w_J7_length (D : va_G) (l : Launch) (hl : l.stackTraces = false) (x0 : Nat) (h : AH) {r : Int32} {hF : AH} (e : f_J7_length x0 h = some (r, hF)) : MetV D l yJ7_length (Cond.code yJ7_length cJ7_length 1 (Option.some .int)) 1 48 [.ref x0] h hF (oI r) :=
  met_ofF (by decide +kernel) hl (Nat.le_of_ble_eq_true rfl) rfl (v_J7_length D l hl [.ref x0] h x0 h e)
/-! jdk/internal/util/Preconditions.checkIndex(IILjava/util/function/BiFunction;)I  -/
abbrev G_J16_checkIndex (D : va_G) (l : Launch) (as : List Value) (h0 hF : AH) (o : Out) : CT := (D, l, (yJ16_checkIndex.cls, yJ16_checkIndex, cJ16_checkIndex, 3, (Option.some .int), 1, 48, []), as, h0, hF, o)
theorem hc_J16_checkIndex {D : va_G} {l : Launch} {as : List Value} {h0 hF : AH} {o : Out} : gC (G_J16_checkIndex D l as h0 hF o) = cJ16_checkIndex := rfl
theorem ho_J16_checkIndex {D : va_G} {l : Launch} {as : List Value} {h0 hF : AH} {o : Out} : gO (G_J16_checkIndex D l as h0 hF o) = "jdk/internal/util/Preconditions" := rfl
theorem hp_J16_checkIndex {D : va_G} {l : Launch} {as : List Value} {h0 hF : AH} {o : Out} (pc : Nat) : ∀ z ∈ tableOf (gHd (G_J16_checkIndex D l as h0 hF o)), covers z pc = false := hpN
def f_J16_checkIndex (x0 : Int32) (x1 : Int32) (x2 : Nat) (h : AH) : Option (Int32 × AH) :=
  if x0 < 0 then (
    none
  ) else (
    if x0 < x1 then (
      some (x0, h)
    ) else (
      none
    )
  )
theorem v_J16_checkIndex (D : va_G) (l : Launch) (hl : l.stackTraces = false) (as : List Value) (h0 : AH) {r : Int32} {hF : AH} (x0 : Int32) (x1 : Int32) (x2 : Nat) (h : AH) (e : f_J16_checkIndex x0 x1 x2 h = some (r, hF)) : V (G_J16_checkIndex D l as h0 hF (oI r)) h 0 [(0, .int x0), (1, .int x1), (2, .ref x2)] [] := by
  unfold f_J16_checkIndex at e
  refine v_iload_n (pc' := 1) hc_J16_checkIndex dJ16_checkIndex_0 rfl rfl 0 rfl ?_
  refine v_if_lt (pt := 9) (pf := 4) hc_J16_checkIndex dJ16_checkIndex_1 rfl rfl e (fun _ e => ?_) (fun _ e => ?_)
  · refine v_aload_n (pc' := 10) hc_J16_checkIndex dJ16_checkIndex_9 rfl rfl 2 rfl ?_
    refine v_iload_n (pc' := 11) hc_J16_checkIndex dJ16_checkIndex_10 rfl rfl 0 rfl ?_
    refine v_iload_n (pc' := 12) hc_J16_checkIndex dJ16_checkIndex_11 rfl rfl 1 rfl ?_
    exact nomatch e
  · refine v_iload_n (pc' := 5) hc_J16_checkIndex dJ16_checkIndex_4 rfl rfl 0 rfl ?_
    refine v_iload_n (pc' := 6) hc_J16_checkIndex dJ16_checkIndex_5 rfl rfl 1 rfl ?_
    refine v_icmp_lt (pt := 16) (pf := 9) hc_J16_checkIndex dJ16_checkIndex_6 rfl rfl e (fun _ e => ?_) (fun _ e => ?_)
    · refine v_iload_n (pc' := 17) hc_J16_checkIndex dJ16_checkIndex_16 rfl rfl 0 rfl ?_
      obtain ⟨rfl, rfl⟩ := ret_of e
      exact v_iret hc_J16_checkIndex rfl dJ16_checkIndex_17 rfl rfl
    · refine v_aload_n (pc' := 10) hc_J16_checkIndex dJ16_checkIndex_9 rfl rfl 2 rfl ?_
      refine v_iload_n (pc' := 11) hc_J16_checkIndex dJ16_checkIndex_10 rfl rfl 0 rfl ?_
      refine v_iload_n (pc' := 12) hc_J16_checkIndex dJ16_checkIndex_11 rfl rfl 1 rfl ?_
      exact nomatch e
theorem w_J16_checkIndex (D : va_G) (l : Launch) (hl : l.stackTraces = false) (x0 : Int32) (x1 : Int32) (x2 : Nat) (h : AH) {r : Int32} {hF : AH} (e : f_J16_checkIndex x0 x1 x2 h = some (r, hF)) : MetV D l yJ16_checkIndex (Cond.code yJ16_checkIndex cJ16_checkIndex 3 (Option.some .int)) 1 48 [.int x0, .int x1, .ref x2] h hF (oI r) :=
  met_ofF (by decide +kernel) hl (Nat.le_of_ble_eq_true rfl) rfl (v_J16_checkIndex D l hl [.int x0, .int x1, .ref x2] h x0 x1 x2 h e)
/-! java/lang/String.checkIndex(II)V  -/
abbrev G_J6_checkIndex (D : va_G) (l : Launch) (as : List Value) (h0 hF : AH) (o : Out) : CT := (D, l, (yJ6_checkIndex.cls, yJ6_checkIndex, cJ6_checkIndex, 2, (Option.none : Option FieldType), 2, 70, []), as, h0, hF, o)
theorem hc_J6_checkIndex {D : va_G} {l : Launch} {as : List Value} {h0 hF : AH} {o : Out} : gC (G_J6_checkIndex D l as h0 hF o) = cJ6_checkIndex := rfl
theorem ho_J6_checkIndex {D : va_G} {l : Launch} {as : List Value} {h0 hF : AH} {o : Out} : gO (G_J6_checkIndex D l as h0 hF o) = "java/lang/String" := rfl
theorem hp_J6_checkIndex {D : va_G} {l : Launch} {as : List Value} {h0 hF : AH} {o : Out} (pc : Nat) : ∀ z ∈ tableOf (gHd (G_J6_checkIndex D l as h0 hF o)), covers z pc = false := hpN
def f_J6_checkIndex (x0 : Int32) (x1 : Int32) (h : AH) : Option (Unit × AH) :=
  bd (aE h 7) fun v1 =>
  bd2 (f_J16_checkIndex x0 x1 v1 h) fun r2 h3 =>
  some ((), h3)
theorem v_J6_checkIndex (D : va_G) (l : Launch) (hl : l.stackTraces = false) (as : List Value) (h0 : AH) {r : Unit} {hF : AH} (x0 : Int32) (x1 : Int32) (h : AH) (e : f_J6_checkIndex x0 x1 h = some (r, hF)) : V (G_J6_checkIndex D l as h0 hF (oV r)) h 0 [(0, .int x0), (1, .int x1)] [] := by
  unfold f_J6_checkIndex at e
  refine v_iload_n (pc' := 1) hc_J6_checkIndex dJ6_checkIndex_0 rfl rfl 0 rfl ?_
  refine v_iload_n (pc' := 2) hc_J6_checkIndex dJ6_checkIndex_1 rfl rfl 1 rfl ?_
  refine v_getsN (pc' := 5) (j := 7) hc_J6_checkIndex ho_J6_checkIndex (by decide +kernel) q662 dJ6_checkIndex_2 rfl e (fun v1 _ e => ?_)
  obtain ⟨r2, h3, e4, e⟩ := bd2_of e
  refine k_S (pc' := 8) (n := 3) hc_J6_checkIndex ho_J6_checkIndex (w_J16_checkIndex D l hl x0 x1 v1 h e4) (wA_l q1835) q410 q97 q411 hy_20 ⟨Nat.le_of_ble_eq_true rfl, Nat.le_of_ble_eq_true rfl⟩ rfl rfl (Nat.le_of_ble_eq_true rfl) dJ6_checkIndex_5 rfl (kS ?_) kN
  refine v_pop (pc' := 9) hc_J6_checkIndex dJ6_checkIndex_8 rfl rfl ?_
  obtain ⟨rfl, rfl⟩ := ret_of e
  exact v_ret hc_J6_checkIndex rfl dJ6_checkIndex_9 rfl rfl
theorem w_J6_checkIndex (D : va_G) (l : Launch) (hl : l.stackTraces = false) (x0 : Int32) (x1 : Int32) (h : AH) {r : Unit} {hF : AH} (e : f_J6_checkIndex x0 x1 h = some (r, hF)) : MetV D l yJ6_checkIndex (Cond.code yJ6_checkIndex cJ6_checkIndex 2 (Option.none : Option FieldType)) 2 70 [.int x0, .int x1] h hF (oV r) :=
  met_ofF (by decide +kernel) hl (Nat.le_of_ble_eq_true rfl) rfl (v_J6_checkIndex D l hl [.int x0, .int x1] h x0 x1 h e)
/-! java/lang/StringUTF16.checkIndex(I[B)V  -/
abbrev G_J7_checkIndex (D : va_G) (l : Launch) (as : List Value) (h0 hF : AH) (o : Out) : CT := (D, l, (yJ7_checkIndex.cls, yJ7_checkIndex, cJ7_checkIndex, 2, (Option.none : Option FieldType), 3, 91, []), as, h0, hF, o)
theorem hc_J7_checkIndex {D : va_G} {l : Launch} {as : List Value} {h0 hF : AH} {o : Out} : gC (G_J7_checkIndex D l as h0 hF o) = cJ7_checkIndex := rfl
theorem ho_J7_checkIndex {D : va_G} {l : Launch} {as : List Value} {h0 hF : AH} {o : Out} : gO (G_J7_checkIndex D l as h0 hF o) = "java/lang/StringUTF16" := rfl
theorem hp_J7_checkIndex {D : va_G} {l : Launch} {as : List Value} {h0 hF : AH} {o : Out} (pc : Nat) : ∀ z ∈ tableOf (gHd (G_J7_checkIndex D l as h0 hF o)), covers z pc = false := hpN
def f_J7_checkIndex (x0 : Int32) (x1 : Nat) (h : AH) : Option (Unit × AH) :=
  bd2 (f_J7_length x1 h) fun r1 h2 =>
  bd2 (f_J6_checkIndex x0 r1 h2) fun r4 h5 =>
  some ((), h5)
theorem v_J7_checkIndex (D : va_G) (l : Launch) (hl : l.stackTraces = false) (as : List Value) (h0 : AH) {r : Unit} {hF : AH} (x0 : Int32) (x1 : Nat) (h : AH) (e : f_J7_checkIndex x0 x1 h = some (r, hF)) : V (G_J7_checkIndex D l as h0 hF (oV r)) h 0 [(0, .int x0), (1, .ref x1)] [] := by
  unfold f_J7_checkIndex at e
  refine v_iload_n (pc' := 1) hc_J7_checkIndex dJ7_checkIndex_0 rfl rfl 0 rfl ?_
  refine v_aload_n (pc' := 2) hc_J7_checkIndex dJ7_checkIndex_1 rfl rfl 1 rfl ?_
  obtain ⟨r1, h2, e3, e⟩ := bd2_of e
  refine k_S (pc' := 5) (n := 1) hc_J7_checkIndex ho_J7_checkIndex (w_J7_length D l hl x1 h e3) (wA_l q656) q657 q84 q658 hy_256 ⟨Nat.le_of_ble_eq_true rfl, Nat.le_of_ble_eq_true rfl⟩ rfl rfl (Nat.le_of_ble_eq_true rfl) dJ7_checkIndex_2 rfl (kS ?_) kN
  obtain ⟨r4, h5, e6, e⟩ := bd2_of e
  refine k_S (pc' := 8) (n := 2) hc_J7_checkIndex ho_J7_checkIndex (w_J6_checkIndex D l hl x0 r1 h2 e6) (wA_l q1842) q1833 q83 q1834 hy_257 ⟨Nat.le_of_ble_eq_true rfl, Nat.le_of_ble_eq_true rfl⟩ rfl rfl (Nat.le_of_ble_eq_true rfl) dJ7_checkIndex_5 rfl (kU ?_) kN
  obtain ⟨rfl, rfl⟩ := ret_of e
  exact v_ret hc_J7_checkIndex rfl dJ7_checkIndex_8 rfl rfl
theorem w_J7_checkIndex (D : va_G) (l : Launch) (hl : l.stackTraces = false) (x0 : Int32) (x1 : Nat) (h : AH) {r : Unit} {hF : AH} (e : f_J7_checkIndex x0 x1 h = some (r, hF)) : MetV D l yJ7_checkIndex (Cond.code yJ7_checkIndex cJ7_checkIndex 2 (Option.none : Option FieldType)) 3 91 [.int x0, .ref x1] h hF (oV r) :=
  met_ofF (by decide +kernel) hl (Nat.le_of_ble_eq_true rfl) rfl (v_J7_checkIndex D l hl [.int x0, .ref x1] h x0 x1 h e)
/-! java/lang/StringUTF16.getChar([BI)C  -/
abbrev G_J7_getChar (D : va_G) (l : Launch) (as : List Value) (h0 hF : AH) (o : Out) : CT := (D, l, (yJ7_getChar.cls, yJ7_getChar, cJ7_getChar, 2, (Option.some .char), 1, 48, []), as, h0, hF, o)
theorem hc_J7_getChar {D : va_G} {l : Launch} {as : List Value} {h0 hF : AH} {o : Out} : gC (G_J7_getChar D l as h0 hF o) = cJ7_getChar := rfl
theorem ho_J7_getChar {D : va_G} {l : Launch} {as : List Value} {h0 hF : AH} {o : Out} : gO (G_J7_getChar D l as h0 hF o) = "java/lang/StringUTF16" := rfl
theorem hp_J7_getChar {D : va_G} {l : Launch} {as : List Value} {h0 hF : AH} {o : Out} (pc : Nat) : ∀ z ∈ tableOf (gHd (G_J7_getChar D l as h0 hF o)), covers z pc = false := hpN
def f_J7_getChar_j28 (x0 : Nat) (x1 : Int32) (h : AH) : Option (Int32 × AH) :=
  bd (ldI h 3 x0 (x1 <<< ((1 : Int32) &&& 31))) fun v1 =>
  bd (ldI h 3 x0 ((x1 <<< ((1 : Int32) &&& 31)) + 1)) fun v2 =>
  gd (nrw .char (((((v1 &&& (255 : Int32)) <<< ((0 : Int32) &&& 31)) ||| ((v2 &&& (255 : Int32)) <<< ((8 : Int32) &&& 31))).toUInt32 % 65536).toInt32)) <|
  some ((((((v1 &&& (255 : Int32)) <<< ((0 : Int32) &&& 31)) ||| ((v2 &&& (255 : Int32)) <<< ((8 : Int32) &&& 31))).toUInt32 % 65536).toInt32), h)
theorem w_J7_getChar_j28 (D : va_G) (l : Launch) (hl : l.stackTraces = false) (as : List Value) (h0 : AH) {r : Int32} {hF : AH} (x0 : Nat) (x1 : Int32) (h : AH) (e : f_J7_getChar_j28 x0 x1 h = some (r, hF)) : V (G_J7_getChar D l as h0 hF (oI r)) h 28 [(0, .ref x0), (1, .int x1)] [] := by
  unfold f_J7_getChar_j28 at e
  refine v_iload_n (pc' := 29) hc_J7_getChar dJ7_getChar_28 rfl rfl 1 rfl ?_
  refine v_iconst (pc' := 30) (v := 1) hc_J7_getChar dJ7_getChar_29 rfl rfl ?_
  refine v_ishl (pc' := 31) hc_J7_getChar dJ7_getChar_30 rfl ?_
  refine v_istore_n (pc' := 32) (lv' := [(1, .int (x1 <<< ((1 : Int32) &&& 31))), (0, .ref x0)]) hc_J7_getChar dJ7_getChar_31 rfl rfl (Nat.le_of_ble_eq_true rfl) rfl ?_
  refine v_aload_n (pc' := 33) hc_J7_getChar dJ7_getChar_32 rfl rfl 1 rfl ?_
  refine v_iload_n (pc' := 34) hc_J7_getChar dJ7_getChar_33 rfl rfl 0 rfl ?_
  refine v_iinc (pc' := 37) (lv' := [(1, .int ((x1 <<< ((1 : Int32) &&& 31)) + 1)), (0, .ref x0)]) (v := (x1 <<< ((1 : Int32) &&& 31)) + 1) hc_J7_getChar dJ7_getChar_34 rfl 0 rfl rfl (Nat.le_of_ble_eq_true rfl) rfl ?_
  refine v_bald (pc' := 38) hc_J7_getChar dJ7_getChar_37 rfl e (fun v1 _ e => ?_)
  refine v_sipush (pc' := 41) (v := 255) hc_J7_getChar dJ7_getChar_38 rfl rfl ?_
  refine v_iand (pc' := 42) hc_J7_getChar dJ7_getChar_41 rfl ?_
  refine v_getsI (pc' := 45) (x := 0) hc_J7_getChar ho_J7_getChar (by decide +kernel) q676 dJ7_getChar_42 rfl ?_
  refine v_ishl (pc' := 46) hc_J7_getChar dJ7_getChar_45 rfl ?_
  refine v_aload_n (pc' := 47) hc_J7_getChar dJ7_getChar_46 rfl rfl 1 rfl ?_
  refine v_iload_n (pc' := 48) hc_J7_getChar dJ7_getChar_47 rfl rfl 0 rfl ?_
  refine v_bald (pc' := 49) hc_J7_getChar dJ7_getChar_48 rfl e (fun v2 _ e => ?_)
  refine v_sipush (pc' := 52) (v := 255) hc_J7_getChar dJ7_getChar_49 rfl rfl ?_
  refine v_iand (pc' := 53) hc_J7_getChar dJ7_getChar_52 rfl ?_
  refine v_getsI (pc' := 56) (x := 8) hc_J7_getChar ho_J7_getChar (by decide +kernel) q678 dJ7_getChar_53 rfl ?_
  refine v_ishl (pc' := 57) hc_J7_getChar dJ7_getChar_56 rfl ?_
  refine v_ior (pc' := 58) hc_J7_getChar dJ7_getChar_57 rfl ?_
  refine v_i2c (pc' := 59) hc_J7_getChar dJ7_getChar_58 rfl ?_
  obtain ⟨c3, e⟩ := gd_of e
  obtain ⟨rfl, rfl⟩ := ret_of e
  exact v_zret hc_J7_getChar rfl (nrw_of c3) dJ7_getChar_59 rfl rfl
def f_J7_getChar (x0 : Nat) (x1 : Int32) (h : AH) : Option (Int32 × AH) :=
  f_J7_getChar_j28 x0 x1 h
theorem v_J7_getChar (D : va_G) (l : Launch) (hl : l.stackTraces = false) (as : List Value) (h0 : AH) {r : Int32} {hF : AH} (x0 : Nat) (x1 : Int32) (h : AH) (e : f_J7_getChar x0 x1 h = some (r, hF)) : V (G_J7_getChar D l as h0 hF (oI r)) h 0 [(0, .ref x0), (1, .int x1)] [] := by
  unfold f_J7_getChar at e
  refine v_getsI (pc' := 3) (x := 1) hc_J7_getChar ho_J7_getChar (by decide +kernel) q674 dJ7_getChar_0 rfl ?_
  refine v_if_neT (pt := 28) hc_J7_getChar dJ7_getChar_3 rfl (by decide) ?_
  exact w_J7_getChar_j28 D l hl as h0 x0 x1 h e
theorem w_J7_getChar (D : va_G) (l : Launch) (hl : l.stackTraces = false) (x0 : Nat) (x1 : Int32) (h : AH) {r : Int32} {hF : AH} (e : f_J7_getChar x0 x1 h = some (r, hF)) : MetV D l yJ7_getChar (Cond.code yJ7_getChar cJ7_getChar 2 (Option.some .char)) 1 48 [.ref x0, .int x1] h hF (oI r) :=
  met_ofF (by decide +kernel) hl (Nat.le_of_ble_eq_true rfl) rfl (v_J7_getChar D l hl [.ref x0, .int x1] h x0 x1 h e)
/-! java/lang/StringUTF16.charAt([BI)C  -/
abbrev G_J7_charAt (D : va_G) (l : Launch) (as : List Value) (h0 hF : AH) (o : Out) : CT := (D, l, (yJ7_charAt.cls, yJ7_charAt, cJ7_charAt, 2, (Option.some .char), 4, 112, []), as, h0, hF, o)
theorem hc_J7_charAt {D : va_G} {l : Launch} {as : List Value} {h0 hF : AH} {o : Out} : gC (G_J7_charAt D l as h0 hF o) = cJ7_charAt := rfl
theorem ho_J7_charAt {D : va_G} {l : Launch} {as : List Value} {h0 hF : AH} {o : Out} : gO (G_J7_charAt D l as h0 hF o) = "java/lang/StringUTF16" := rfl
theorem hp_J7_charAt {D : va_G} {l : Launch} {as : List Value} {h0 hF : AH} {o : Out} (pc : Nat) : ∀ z ∈ tableOf (gHd (G_J7_charAt D l as h0 hF o)), covers z pc = false := hpN
def f_J7_charAt (x0 : Nat) (x1 : Int32) (h : AH) : Option (Int32 × AH) :=
  bd2 (f_J7_checkIndex x1 x0 h) fun r1 h2 =>
  bd2 (f_J7_getChar x0 x1 h2) fun r4 h5 =>
  gd (nrw .char r4) <|
  some (r4, h5)
theorem v_J7_charAt (D : va_G) (l : Launch) (hl : l.stackTraces = false) (as : List Value) (h0 : AH) {r : Int32} {hF : AH} (x0 : Nat) (x1 : Int32) (h : AH) (e : f_J7_charAt x0 x1 h = some (r, hF)) : V (G_J7_charAt D l as h0 hF (oI r)) h 0 [(0, .ref x0), (1, .int x1)] [] := by
  unfold f_J7_charAt at e
  refine v_iload_n (pc' := 1) hc_J7_charAt dJ7_charAt_0 rfl rfl 1 rfl ?_
  refine v_aload_n (pc' := 2) hc_J7_charAt dJ7_charAt_1 rfl rfl 0 rfl ?_
  obtain ⟨r1, h2, e3, e⟩ := bd2_of e
  refine k_S (pc' := 5) (n := 2) hc_J7_charAt ho_J7_charAt (w_J7_checkIndex D l hl x1 x0 h e3) (wA_l q1839) q1840 q84 q1841 hy_258 ⟨Nat.le_of_ble_eq_true rfl, Nat.le_of_ble_eq_true rfl⟩ rfl rfl (Nat.le_of_ble_eq_true rfl) dJ7_charAt_2 rfl (kU ?_) kN
  refine v_aload_n (pc' := 6) hc_J7_charAt dJ7_charAt_5 rfl rfl 0 rfl ?_
  refine v_iload_n (pc' := 7) hc_J7_charAt dJ7_charAt_6 rfl rfl 1 rfl ?_
  obtain ⟨r4, h5, e6, e⟩ := bd2_of e
  refine k_S (pc' := 10) (n := 2) hc_J7_charAt ho_J7_charAt (w_J7_getChar D l hl x0 x1 h2 e6) (wA_l q786) q787 q84 q788 hy_259 ⟨Nat.le_of_ble_eq_true rfl, Nat.le_of_ble_eq_true rfl⟩ rfl rfl (Nat.le_of_ble_eq_true rfl) dJ7_charAt_7 rfl (kS ?_) kN
  obtain ⟨c7, e⟩ := gd_of e
  obtain ⟨rfl, rfl⟩ := ret_of e
  exact v_zret hc_J7_charAt rfl (nrw_of c7) dJ7_charAt_10 rfl rfl
theorem w_J7_charAt (D : va_G) (l : Launch) (hl : l.stackTraces = false) (x0 : Nat) (x1 : Int32) (h : AH) {r : Int32} {hF : AH} (e : f_J7_charAt x0 x1 h = some (r, hF)) : MetV D l yJ7_charAt (Cond.code yJ7_charAt cJ7_charAt 2 (Option.some .char)) 4 112 [.ref x0, .int x1] h hF (oI r) :=
  met_ofF (by decide +kernel) hl (Nat.le_of_ble_eq_true rfl) rfl (v_J7_charAt D l hl [.ref x0, .int x1] h x0 x1 h e)
/-! java/lang/StringLatin1.charAt([BI)C  -/
abbrev G_J17_charAt (D : va_G) (l : Launch) (as : List Value) (h0 hF : AH) (o : Out) : CT := (D, l, (yJ17_charAt.cls, yJ17_charAt, cJ17_charAt, 2, (Option.some .char), 3, 91, []), as, h0, hF, o)
theorem hc_J17_charAt {D : va_G} {l : Launch} {as : List Value} {h0 hF : AH} {o : Out} : gC (G_J17_charAt D l as h0 hF o) = cJ17_charAt := rfl
theorem ho_J17_charAt {D : va_G} {l : Launch} {as : List Value} {h0 hF : AH} {o : Out} : gO (G_J17_charAt D l as h0 hF o) = "java/lang/StringLatin1" := rfl
theorem hp_J17_charAt {D : va_G} {l : Launch} {as : List Value} {h0 hF : AH} {o : Out} (pc : Nat) : ∀ z ∈ tableOf (gHd (G_J17_charAt D l as h0 hF o)), covers z pc = false := hpN
def f_J17_charAt (x0 : Nat) (x1 : Int32) (h : AH) : Option (Int32 × AH) :=
  bd (aLn h x0) fun v1 =>
  bd2 (f_J6_checkIndex x1 v1 h) fun r2 h3 =>
  bd (ldI h3 3 x0 x1) fun v5 =>
  gd (nrw .char (((v5 &&& (255 : Int32)).toUInt32 % 65536).toInt32)) <|
  some ((((v5 &&& (255 : Int32)).toUInt32 % 65536).toInt32), h3)
theorem v_J17_charAt (D : va_G) (l : Launch) (hl : l.stackTraces = false) (as : List Value) (h0 : AH) {r : Int32} {hF : AH} (x0 : Nat) (x1 : Int32) (h : AH) (e : f_J17_charAt x0 x1 h = some (r, hF)) : V (G_J17_charAt D l as h0 hF (oI r)) h 0 [(0, .ref x0), (1, .int x1)] [] := by
  unfold f_J17_charAt at e
  refine v_iload_n (pc' := 1) hc_J17_charAt dJ17_charAt_0 rfl rfl 1 rfl ?_
  refine v_aload_n (pc' := 2) hc_J17_charAt dJ17_charAt_1 rfl rfl 0 rfl ?_
  refine v_alen (pc' := 3) hc_J17_charAt dJ17_charAt_2 rfl e (fun v1 _ e => ?_)
  obtain ⟨r2, h3, e4, e⟩ := bd2_of e
  refine k_S (pc' := 6) (n := 2) hc_J17_charAt ho_J17_charAt (w_J6_checkIndex D l hl x1 v1 h e4) (wA_l q1832) q1833 q83 q1834 hy_257 ⟨Nat.le_of_ble_eq_true rfl, Nat.le_of_ble_eq_true rfl⟩ rfl rfl (Nat.le_of_ble_eq_true rfl) dJ17_charAt_3 rfl (kU ?_) kN
  refine v_aload_n (pc' := 7) hc_J17_charAt dJ17_charAt_6 rfl rfl 0 rfl ?_
  refine v_iload_n (pc' := 8) hc_J17_charAt dJ17_charAt_7 rfl rfl 1 rfl ?_
  refine v_bald (pc' := 9) hc_J17_charAt dJ17_charAt_8 rfl e (fun v5 _ e => ?_)
  refine v_sipush (pc' := 12) (v := 255) hc_J17_charAt dJ17_charAt_9 rfl rfl ?_
  refine v_iand (pc' := 13) hc_J17_charAt dJ17_charAt_12 rfl ?_
  refine v_i2c (pc' := 14) hc_J17_charAt dJ17_charAt_13 rfl ?_
  obtain ⟨c6, e⟩ := gd_of e
  obtain ⟨rfl, rfl⟩ := ret_of e
  exact v_zret hc_J17_charAt rfl (nrw_of c6) dJ17_charAt_14 rfl rfl
theorem w_J17_charAt (D : va_G) (l : Launch) (hl : l.stackTraces = false) (x0 : Nat) (x1 : Int32) (h : AH) {r : Int32} {hF : AH} (e : f_J17_charAt x0 x1 h = some (r, hF)) : MetV D l yJ17_charAt (Cond.code yJ17_charAt cJ17_charAt 2 (Option.some .char)) 3 91 [.ref x0, .int x1] h hF (oI r) :=
  met_ofF (by decide +kernel) hl (Nat.le_of_ble_eq_true rfl) rfl (v_J17_charAt D l hl [.ref x0, .int x1] h x0 x1 h e)
/-! java/lang/String.charAt(I)C  -/
abbrev G_J6_charAt (D : va_G) (l : Launch) (as : List Value) (h0 hF : AH) (o : Out) : CT := (D, l, (yJ6_charAt.cls, yJ6_charAt, cJ6_charAt, 2, (Option.some .char), 5, 133, []), as, h0, hF, o)
theorem hc_J6_charAt {D : va_G} {l : Launch} {as : List Value} {h0 hF : AH} {o : Out} : gC (G_J6_charAt D l as h0 hF o) = cJ6_charAt := rfl
theorem ho_J6_charAt {D : va_G} {l : Launch} {as : List Value} {h0 hF : AH} {o : Out} : gO (G_J6_charAt D l as h0 hF o) = "java/lang/String" := rfl
theorem hp_J6_charAt {D : va_G} {l : Launch} {as : List Value} {h0 hF : AH} {o : Out} (pc : Nat) : ∀ z ∈ tableOf (gHd (G_J6_charAt D l as h0 hF o)), covers z pc = false := hpN
def f_J6_charAt (x0 : Nat) (x1 : Int32) (h : AH) : Option (Int32 × AH) :=
  gd (isC h 19 x0) <|
  bd2 (f_J6_isLatin1 x0 h) fun r2 h3 =>
  if r2 = 0 then (
    bd (gtR h3 19 x0 0) fun v5 =>
    bd2 (f_J7_charAt v5 x1 h3) fun r6 h7 =>
    gd (nrw .char r6) <|
    some (r6, h7)
  ) else (
    bd (gtR h3 19 x0 0) fun v10 =>
    bd2 (f_J17_charAt v10 x1 h3) fun r11 h12 =>
    gd (nrw .char r11) <|
    some (r11, h12)
  )
theorem v_J6_charAt (D : va_G) (l : Launch) (hl : l.stackTraces = false) (as : List Value) (h0 : AH) {r : Int32} {hF : AH} (x0 : Nat) (x1 : Int32) (h : AH) (e : f_J6_charAt x0 x1 h = some (r, hF)) : V (G_J6_charAt D l as h0 hF (oI r)) h 0 [(0, .ref x0), (1, .int x1)] [] := by
  unfold f_J6_charAt at e
  refine v_aload_n (pc' := 1) hc_J6_charAt dJ6_charAt_0 rfl rfl 0 rfl ?_
  obtain ⟨c1, e⟩ := gd_of e
  obtain ⟨r2, h3, e4, e⟩ := bd2_of e
  refine k_V (pc' := 4) (ci := 19) (n := 0) hc_J6_charAt ho_J6_charAt rfl c1 (w_J6_isLatin1 D l hl x0 h e4) (wA_l q1010) q1011 (wA_l q1012) q83 q1013 hy_31 ⟨Nat.le_of_ble_eq_true rfl, Nat.le_of_ble_eq_true rfl⟩ rfl rfl (Nat.le_of_ble_eq_true rfl) dJ6_charAt_1 rfl (kS ?_) kN
  refine v_if_eq (pt := 16) (pf := 7) hc_J6_charAt dJ6_charAt_4 rfl rfl e (fun _ e => ?_) (fun _ e => ?_)
  · refine v_aload_n (pc' := 17) hc_J6_charAt dJ6_charAt_16 rfl rfl 0 rfl ?_
    refine v_gfR (pc' := 20) hc_J6_charAt ho_J6_charAt KJ6 0 (Nat.le_of_ble_eq_true rfl) q793 (Or.inl rfl) dJ6_charAt_17 rfl e (fun v5 _ e => ?_)
    refine v_iload_n (pc' := 21) hc_J6_charAt dJ6_charAt_20 rfl rfl 1 rfl ?_
    obtain ⟨r6, h7, e8, e⟩ := bd2_of e
    refine k_S (pc' := 24) (n := 2) hc_J6_charAt ho_J6_charAt (w_J7_charAt D l hl v5 x1 h3 e8) (wA_l q1836) q1837 q84 q1838 hy_260 ⟨Nat.le_of_ble_eq_true rfl, Nat.le_of_ble_eq_true rfl⟩ rfl rfl (Nat.le_of_ble_eq_true rfl) dJ6_charAt_21 rfl (kS ?_) kN
    obtain ⟨c9, e⟩ := gd_of e
    obtain ⟨rfl, rfl⟩ := ret_of e
    exact v_zret hc_J6_charAt rfl (nrw_of c9) dJ6_charAt_24 rfl rfl
  · refine v_aload_n (pc' := 8) hc_J6_charAt dJ6_charAt_7 rfl rfl 0 rfl ?_
    refine v_gfR (pc' := 11) hc_J6_charAt ho_J6_charAt KJ6 0 (Nat.le_of_ble_eq_true rfl) q793 (Or.inl rfl) dJ6_charAt_8 rfl e (fun v10 _ e => ?_)
    refine v_iload_n (pc' := 12) hc_J6_charAt dJ6_charAt_11 rfl rfl 1 rfl ?_
    obtain ⟨r11, h12, e13, e⟩ := bd2_of e
    refine k_S (pc' := 15) (n := 2) hc_J6_charAt ho_J6_charAt (w_J17_charAt D l hl v10 x1 h3 e13) (wA_l q1829) q1830 q98 q1831 hy_261 ⟨Nat.le_of_ble_eq_true rfl, Nat.le_of_ble_eq_true rfl⟩ rfl rfl (Nat.le_of_ble_eq_true rfl) dJ6_charAt_12 rfl (kS ?_) kN
    obtain ⟨c14, e⟩ := gd_of e
    obtain ⟨rfl, rfl⟩ := ret_of e
    exact v_zret hc_J6_charAt rfl (nrw_of c14) dJ6_charAt_15 rfl rfl
theorem w_J6_charAt (D : va_G) (l : Launch) (hl : l.stackTraces = false) (x0 : Nat) (x1 : Int32) (h : AH) {r : Int32} {hF : AH} (e : f_J6_charAt x0 x1 h = some (r, hF)) : MetV D l yJ6_charAt (Cond.code yJ6_charAt cJ6_charAt 2 (Option.some .char)) 5 133 [.ref x0, .int x1] h hF (oI r) :=
  met_ofF (by decide +kernel) hl (Nat.le_of_ble_eq_true rfl) rfl (v_J6_charAt D l hl [.ref x0, .int x1] h x0 x1 h e)
/-! java/lang/AbstractStringBuilder.charAt(I)C  -/
abbrev G_J4_charAt (D : va_G) (l : Launch) (as : List Value) (h0 hF : AH) (o : Out) : CT := (D, l, (yJ4_charAt.cls, yJ4_charAt, cJ4_charAt, 5, (Option.some .char), 3, 91, []), as, h0, hF, o)
theorem hc_J4_charAt {D : va_G} {l : Launch} {as : List Value} {h0 hF : AH} {o : Out} : gC (G_J4_charAt D l as h0 hF o) = cJ4_charAt := rfl
theorem ho_J4_charAt {D : va_G} {l : Launch} {as : List Value} {h0 hF : AH} {o : Out} : gO (G_J4_charAt D l as h0 hF o) = "java/lang/AbstractStringBuilder" := rfl
theorem hp_J4_charAt {D : va_G} {l : Launch} {as : List Value} {h0 hF : AH} {o : Out} (pc : Nat) : ∀ z ∈ tableOf (gHd (G_J4_charAt D l as h0 hF o)), covers z pc = false := hpN
def f_J4_charAt (x0 : Nat) (x1 : Int32) (h : AH) : Option (Int32 × AH) :=
  bd (gtI h 18 x0 1) fun v1 =>
  bd (gtR h 18 x0 0) fun v2 =>
  bd (gtI h 18 x0 3) fun v3 =>
  bd (aLn h v2) fun v4 =>
  bd2 (f_J15_min v3 (v4 >>> (v1 &&& 31)) h) fun r5 h6 =>
  bd2 (f_J6_checkIndex x1 r5 h6) fun r8 h9 =>
  if v1 = 0 then (
    bd (ldI h9 3 v2 x1) fun v11 =>
    gd (nrw .char (((v11 &&& (255 : Int32)).toUInt32 % 65536).toInt32)) <|
    some ((((v11 &&& (255 : Int32)).toUInt32 % 65536).toInt32), h9)
  ) else (
    bd2 (f_J7_getChar v2 x1 h9) fun r13 h14 =>
    gd (nrw .char r13) <|
    some (r13, h14)
  )
theorem v_J4_charAt (D : va_G) (l : Launch) (hl : l.stackTraces = false) (as : List Value) (h0 : AH) {r : Int32} {hF : AH} (x0 : Nat) (x1 : Int32) (h : AH) (e : f_J4_charAt x0 x1 h = some (r, hF)) : V (G_J4_charAt D l as h0 hF (oI r)) h 0 [(0, .ref x0), (1, .int x1)] [] := by
  unfold f_J4_charAt at e
  refine v_aload_n (pc' := 1) hc_J4_charAt dJ4_charAt_0 rfl rfl 0 rfl ?_
  refine v_gfI (pc' := 4) hc_J4_charAt ho_J4_charAt KJ5 1 (Nat.le_of_ble_eq_true rfl) q220 (Or.inl rfl) dJ4_charAt_1 rfl e (fun v1 _ e => ?_)
  refine v_istore_n (pc' := 5) (lv' := [(2, .int v1), (0, .ref x0), (1, .int x1)]) hc_J4_charAt dJ4_charAt_4 rfl rfl (Nat.le_of_ble_eq_true rfl) rfl ?_
  refine v_aload_n (pc' := 6) hc_J4_charAt dJ4_charAt_5 rfl rfl 1 rfl ?_
  refine v_gfR (pc' := 9) hc_J4_charAt ho_J4_charAt KJ5 0 (Nat.le_of_ble_eq_true rfl) q219 (Or.inl rfl) dJ4_charAt_6 rfl e (fun v2 _ e => ?_)
  refine v_astore_n (pc' := 10) (lv' := [(3, .ref v2), (2, .int v1), (0, .ref x0), (1, .int x1)]) hc_J4_charAt dJ4_charAt_9 rfl rfl (Nat.le_of_ble_eq_true rfl) rfl ?_
  refine v_aload_n (pc' := 11) hc_J4_charAt dJ4_charAt_10 rfl rfl 2 rfl ?_
  refine v_gfI (pc' := 14) hc_J4_charAt ho_J4_charAt KJ5 3 (Nat.le_of_ble_eq_true rfl) q223 (Or.inl rfl) dJ4_charAt_11 rfl e (fun v3 _ e => ?_)
  refine v_aload_n (pc' := 15) hc_J4_charAt dJ4_charAt_14 rfl rfl 0 rfl ?_
  refine v_alen (pc' := 16) hc_J4_charAt dJ4_charAt_15 rfl e (fun v4 _ e => ?_)
  refine v_iload_n (pc' := 17) hc_J4_charAt dJ4_charAt_16 rfl rfl 1 rfl ?_
  refine v_ishr (pc' := 18) hc_J4_charAt dJ4_charAt_17 rfl ?_
  obtain ⟨r5, h6, e7, e⟩ := bd2_of e
  refine k_S (pc' := 21) (n := 2) hc_J4_charAt ho_J4_charAt (w_J15_min D l hl v3 (v4 >>> (v1 &&& 31)) h e7) (wA_l q1864) q633 q95 q634 hy_11 ⟨Nat.le_of_ble_eq_true rfl, Nat.le_of_ble_eq_true rfl⟩ rfl rfl (Nat.le_of_ble_eq_true rfl) dJ4_charAt_18 rfl (kS ?_) kN
  refine v_istore (pc' := 23) (lv' := [(4, .int r5), (3, .ref v2), (2, .int v1), (0, .ref x0), (1, .int x1)]) hc_J4_charAt dJ4_charAt_21 rfl (Nat.le_of_ble_eq_true rfl) rfl ?_
  refine v_iload_n (pc' := 24) hc_J4_charAt dJ4_charAt_23 rfl rfl 4 rfl ?_
  refine v_iload (pc' := 26) hc_J4_charAt dJ4_charAt_24 rfl 0 rfl ?_
  obtain ⟨r8, h9, e10, e⟩ := bd2_of e
  refine k_S (pc' := 29) (n := 2) hc_J4_charAt ho_J4_charAt (w_J6_checkIndex D l hl x1 r5 h6 e10) (wA_l q1865) q1833 q83 q1834 hy_257 ⟨Nat.le_of_ble_eq_true rfl, Nat.le_of_ble_eq_true rfl⟩ rfl rfl (Nat.le_of_ble_eq_true rfl) dJ4_charAt_26 rfl (kU ?_) kN
  refine v_iload_n (pc' := 30) hc_J4_charAt dJ4_charAt_29 rfl rfl 2 rfl ?_
  refine v_if_ne (pt := 42) (pf := 33) hc_J4_charAt dJ4_charAt_30 rfl rfl e (fun _ e => ?_) (fun _ e => ?_)
  · refine v_aload_n (pc' := 34) hc_J4_charAt dJ4_charAt_33 rfl rfl 1 rfl ?_
    refine v_iload_n (pc' := 35) hc_J4_charAt dJ4_charAt_34 rfl rfl 4 rfl ?_
    refine v_bald (pc' := 36) hc_J4_charAt dJ4_charAt_35 rfl e (fun v11 _ e => ?_)
    refine v_sipush (pc' := 39) (v := 255) hc_J4_charAt dJ4_charAt_36 rfl rfl ?_
    refine v_iand (pc' := 40) hc_J4_charAt dJ4_charAt_39 rfl ?_
    refine v_i2c (pc' := 41) hc_J4_charAt dJ4_charAt_40 rfl ?_
    obtain ⟨c12, e⟩ := gd_of e
    obtain ⟨rfl, rfl⟩ := ret_of e
    exact v_zret hc_J4_charAt rfl (nrw_of c12) dJ4_charAt_41 rfl rfl
  · refine v_aload_n (pc' := 43) hc_J4_charAt dJ4_charAt_42 rfl rfl 1 rfl ?_
    refine v_iload_n (pc' := 44) hc_J4_charAt dJ4_charAt_43 rfl rfl 4 rfl ?_
    obtain ⟨r13, h14, e15, e⟩ := bd2_of e
    refine k_S (pc' := 47) (n := 2) hc_J4_charAt ho_J4_charAt (w_J7_getChar D l hl v2 x1 h9 e15) (wA_l q1866) q787 q84 q788 hy_259 ⟨Nat.le_of_ble_eq_true rfl, Nat.le_of_ble_eq_true rfl⟩ rfl rfl (Nat.le_of_ble_eq_true rfl) dJ4_charAt_44 rfl (kS ?_) kN
    obtain ⟨c16, e⟩ := gd_of e
    obtain ⟨rfl, rfl⟩ := ret_of e
    exact v_zret hc_J4_charAt rfl (nrw_of c16) dJ4_charAt_47 rfl rfl
theorem w_J4_charAt (D : va_G) (l : Launch) (hl : l.stackTraces = false) (x0 : Nat) (x1 : Int32) (h : AH) {r : Int32} {hF : AH} (e : f_J4_charAt x0 x1 h = some (r, hF)) : MetV D l yJ4_charAt (Cond.code yJ4_charAt cJ4_charAt 5 (Option.some .char)) 3 91 [.ref x0, .int x1] h hF (oI r) :=
  met_ofF (by decide +kernel) hl (Nat.le_of_ble_eq_true rfl) rfl (v_J4_charAt D l hl [.ref x0, .int x1] h x0 x1 h e)
/-! java/lang/StringBuilder.charAt(I)C  -/
abbrev G_J5_charAt (D : va_G) (l : Launch) (as : List Value) (h0 hF : AH) (o : Out) : CT := (D, l, (yJ5_charAt.cls, yJ5_charAt, cJ5_charAt, 2, (Option.some .char), 4, 115, []), as, h0, hF, o)
theorem hc_J5_charAt {D : va_G} {l : Launch} {as : List Value} {h0 hF : AH} {o : Out} : gC (G_J5_charAt D l as h0 hF o) = cJ5_charAt := rfl
theorem ho_J5_charAt {D : va_G} {l : Launch} {as : List Value} {h0 hF : AH} {o : Out} : gO (G_J5_charAt D l as h0 hF o) = "java/lang/StringBuilder" := rfl
theorem hp_J5_charAt {D : va_G} {l : Launch} {as : List Value} {h0 hF : AH} {o : Out} (pc : Nat) : ∀ z ∈ tableOf (gHd (G_J5_charAt D l as h0 hF o)), covers z pc = false := hpN
def f_J5_charAt (x0 : Nat) (x1 : Int32) (h : AH) : Option (Int32 × AH) :=
  gd (isC h 18 x0) <|
  bd2 (f_J4_charAt x0 x1 h) fun r2 h3 =>
  gd (nrw .char r2) <|
  some (r2, h3)
theorem v_J5_charAt (D : va_G) (l : Launch) (hl : l.stackTraces = false) (as : List Value) (h0 : AH) {r : Int32} {hF : AH} (x0 : Nat) (x1 : Int32) (h : AH) (e : f_J5_charAt x0 x1 h = some (r, hF)) : V (G_J5_charAt D l as h0 hF (oI r)) h 0 [(0, .ref x0), (1, .int x1)] [] := by
  unfold f_J5_charAt at e
  refine v_aload_n (pc' := 1) hc_J5_charAt dJ5_charAt_0 rfl rfl 0 rfl ?_
  refine v_iload_n (pc' := 2) hc_J5_charAt dJ5_charAt_1 rfl rfl 1 rfl ?_
  obtain ⟨c1, e⟩ := gd_of e
  obtain ⟨r2, h3, e4, e⟩ := bd2_of e
  refine k_SU (pc' := 5) (x := ⟨"java/lang/AbstractStringBuilder", "charAt", "(I)C"⟩) (ci := 18) (n := 1) hc_J5_charAt ho_J5_charAt rfl c1 (w_J4_charAt D l hl x0 x1 h e4) (by decide +kernel) (wA_l q1861) (wA_l q2692) q232 q1862 q81 q1863 hy_266 ⟨Nat.le_of_ble_eq_true rfl, Nat.le_of_ble_eq_true rfl⟩ rfl rfl (Nat.le_of_ble_eq_true rfl) dJ5_charAt_2 rfl (kS ?_) kN
  obtain ⟨c5, e⟩ := gd_of e
  obtain ⟨rfl, rfl⟩ := ret_of e
  exact v_zret hc_J5_charAt rfl (nrw_of c5) dJ5_charAt_5 rfl rfl
theorem w_J5_charAt (D : va_G) (l : Launch) (hl : l.stackTraces = false) (x0 : Nat) (x1 : Int32) (h : AH) {r : Int32} {hF : AH} (e : f_J5_charAt x0 x1 h = some (r, hF)) : MetV D l yJ5_charAt (Cond.code yJ5_charAt cJ5_charAt 2 (Option.some .char)) 4 115 [.ref x0, .int x1] h hF (oI r) :=
  met_ofF (by decide +kernel) hl (Nat.le_of_ble_eq_true rfl) rfl (v_J5_charAt D l hl [.ref x0, .int x1] h x0 x1 h e)
/-! java/lang/StringUTF16.putChar([BII)V  -/
abbrev G_J7_putChar (D : va_G) (l : Launch) (as : List Value) (h0 hF : AH) (o : Out) : CT := (D, l, (yJ7_putChar.cls, yJ7_putChar, cJ7_putChar, 3, (Option.none : Option FieldType), 1, 48, []), as, h0, hF, o)
theorem hc_J7_putChar {D : va_G} {l : Launch} {as : List Value} {h0 hF : AH} {o : Out} : gC (G_J7_putChar D l as h0 hF o) = cJ7_putChar := rfl
theorem ho_J7_putChar {D : va_G} {l : Launch} {as : List Value} {h0 hF : AH} {o : Out} : gO (G_J7_putChar D l as h0 hF o) = "java/lang/StringUTF16" := rfl
theorem hp_J7_putChar {D : va_G} {l : Launch} {as : List Value} {h0 hF : AH} {o : Out} (pc : Nat) : ∀ z ∈ tableOf (gHd (G_J7_putChar D l as h0 hF o)), covers z pc = false := hpN
def f_J7_putChar_j28 (x0 : Nat) (x1 : Int32) (x2 : Int32) (h : AH) : Option (Unit × AH) :=
  bd (stB h x0 (x1 <<< ((1 : Int32) &&& 31)) ((x2 >>> ((0 : Int32) &&& 31)).toInt8.toInt32)) fun h1 =>
  bd (stB h1 x0 ((x1 <<< ((1 : Int32) &&& 31)) + 1) ((x2 >>> ((8 : Int32) &&& 31)).toInt8.toInt32)) fun h2 =>
  some ((), h2)
theorem w_J7_putChar_j28 (D : va_G) (l : Launch) (hl : l.stackTraces = false) (as : List Value) (h0 : AH) {r : Unit} {hF : AH} (x0 : Nat) (x1 : Int32) (x2 : Int32) (h : AH) (e : f_J7_putChar_j28 x0 x1 x2 h = some (r, hF)) : V (G_J7_putChar D l as h0 hF (oV r)) h 28 [(0, .ref x0), (1, .int x1), (2, .int x2)] [] := by
  unfold f_J7_putChar_j28 at e
  refine v_iload_n (pc' := 29) hc_J7_putChar dJ7_putChar_28 rfl rfl 1 rfl ?_
  refine v_iconst (pc' := 30) (v := 1) hc_J7_putChar dJ7_putChar_29 rfl rfl ?_
  refine v_ishl (pc' := 31) hc_J7_putChar dJ7_putChar_30 rfl ?_
  refine v_istore_n (pc' := 32) (lv' := [(1, .int (x1 <<< ((1 : Int32) &&& 31))), (0, .ref x0), (2, .int x2)]) hc_J7_putChar dJ7_putChar_31 rfl rfl (Nat.le_of_ble_eq_true rfl) rfl ?_
  refine v_aload_n (pc' := 33) hc_J7_putChar dJ7_putChar_32 rfl rfl 1 rfl ?_
  refine v_iload_n (pc' := 34) hc_J7_putChar dJ7_putChar_33 rfl rfl 0 rfl ?_
  refine v_iinc (pc' := 37) (lv' := [(1, .int ((x1 <<< ((1 : Int32) &&& 31)) + 1)), (0, .ref x0), (2, .int x2)]) (v := (x1 <<< ((1 : Int32) &&& 31)) + 1) hc_J7_putChar dJ7_putChar_34 rfl 0 rfl rfl (Nat.le_of_ble_eq_true rfl) rfl ?_
  refine v_iload_n (pc' := 38) hc_J7_putChar dJ7_putChar_37 rfl rfl 2 rfl ?_
  refine v_getsI (pc' := 41) (x := 0) hc_J7_putChar ho_J7_putChar (by decide +kernel) q676 dJ7_putChar_38 rfl ?_
  refine v_ishr (pc' := 42) hc_J7_putChar dJ7_putChar_41 rfl ?_
  refine v_i2b (pc' := 43) hc_J7_putChar dJ7_putChar_42 rfl ?_
  refine v_bast (pc' := 44) hc_J7_putChar dJ7_putChar_43 rfl e (fun h1 _ e => ?_)
  refine v_aload_n (pc' := 45) hc_J7_putChar dJ7_putChar_44 rfl rfl 1 rfl ?_
  refine v_iload_n (pc' := 46) hc_J7_putChar dJ7_putChar_45 rfl rfl 0 rfl ?_
  refine v_iload_n (pc' := 47) hc_J7_putChar dJ7_putChar_46 rfl rfl 2 rfl ?_
  refine v_getsI (pc' := 50) (x := 8) hc_J7_putChar ho_J7_putChar (by decide +kernel) q678 dJ7_putChar_47 rfl ?_
  refine v_ishr (pc' := 51) hc_J7_putChar dJ7_putChar_50 rfl ?_
  refine v_i2b (pc' := 52) hc_J7_putChar dJ7_putChar_51 rfl ?_
  refine v_bast (pc' := 53) hc_J7_putChar dJ7_putChar_52 rfl e (fun h2 _ e => ?_)
  obtain ⟨rfl, rfl⟩ := ret_of e
  exact v_ret hc_J7_putChar rfl dJ7_putChar_53 rfl rfl
def f_J7_putChar (x0 : Nat) (x1 : Int32) (x2 : Int32) (h : AH) : Option (Unit × AH) :=
  f_J7_putChar_j28 x0 x1 x2 h
theorem v_J7_putChar (D : va_G) (l : Launch) (hl : l.stackTraces = false) (as : List Value) (h0 : AH) {r : Unit} {hF : AH} (x0 : Nat) (x1 : Int32) (x2 : Int32) (h : AH) (e : f_J7_putChar x0 x1 x2 h = some (r, hF)) : V (G_J7_putChar D l as h0 hF (oV r)) h 0 [(0, .ref x0), (1, .int x1), (2, .int x2)] [] := by
  unfold f_J7_putChar at e
  refine v_getsI (pc' := 3) (x := 1) hc_J7_putChar ho_J7_putChar (by decide +kernel) q674 dJ7_putChar_0 rfl ?_
  refine v_if_neT (pt := 28) hc_J7_putChar dJ7_putChar_3 rfl (by decide) ?_
  exact w_J7_putChar_j28 D l hl as h0 x0 x1 x2 h e
theorem w_J7_putChar (D : va_G) (l : Launch) (hl : l.stackTraces = false) (x0 : Nat) (x1 : Int32) (x2 : Int32) (h : AH) {r : Unit} {hF : AH} (e : f_J7_putChar x0 x1 x2 h = some (r, hF)) : MetV D l yJ7_putChar (Cond.code yJ7_putChar cJ7_putChar 3 (Option.none : Option FieldType)) 1 48 [.ref x0, .int x1, .int x2] h hF (oV r) :=
  met_ofF (by decide +kernel) hl (Nat.le_of_ble_eq_true rfl) rfl (v_J7_putChar D l hl [.ref x0, .int x1, .int x2] h x0 x1 x2 h e)
/-! java/lang/StringUTF16.putCharSB([BII)V  -/
abbrev G_J7_putCharSB (D : va_G) (l : Launch) (as : List Value) (h0 hF : AH) (o : Out) : CT := (D, l, (yJ7_putCharSB.cls, yJ7_putCharSB, cJ7_putCharSB, 3, (Option.none : Option FieldType), 4, 112, []), as, h0, hF, o)
theorem hc_J7_putCharSB {D : va_G} {l : Launch} {as : List Value} {h0 hF : AH} {o : Out} : gC (G_J7_putCharSB D l as h0 hF o) = cJ7_putCharSB := rfl
theorem ho_J7_putCharSB {D : va_G} {l : Launch} {as : List Value} {h0 hF : AH} {o : Out} : gO (G_J7_putCharSB D l as h0 hF o) = "java/lang/StringUTF16" := rfl
theorem hp_J7_putCharSB {D : va_G} {l : Launch} {as : List Value} {h0 hF : AH} {o : Out} (pc : Nat) : ∀ z ∈ tableOf (gHd (G_J7_putCharSB D l as h0 hF o)), covers z pc = false := hpN
def f_J7_putCharSB (x0 : Nat) (x1 : Int32) (x2 : Int32) (h : AH) : Option (Unit × AH) :=
  bd2 (f_J7_checkIndex x1 x0 h) fun r1 h2 =>
  bd2 (f_J7_putChar x0 x1 x2 h2) fun r4 h5 =>
  some ((), h5)
theorem v_J7_putCharSB (D : va_G) (l : Launch) (hl : l.stackTraces = false) (as : List Value) (h0 : AH) {r : Unit} {hF : AH} (x0 : Nat) (x1 : Int32) (x2 : Int32) (h : AH) (e : f_J7_putCharSB x0 x1 x2 h = some (r, hF)) : V (G_J7_putCharSB D l as h0 hF (oV r)) h 0 [(0, .ref x0), (1, .int x1), (2, .int x2)] [] := by
  unfold f_J7_putCharSB at e
  refine v_iload_n (pc' := 1) hc_J7_putCharSB dJ7_putCharSB_0 rfl rfl 1 rfl ?_
  refine v_aload_n (pc' := 2) hc_J7_putCharSB dJ7_putCharSB_1 rfl rfl 0 rfl ?_
  obtain ⟨r1, h2, e3, e⟩ := bd2_of e
  refine k_S (pc' := 5) (n := 2) hc_J7_putCharSB ho_J7_putCharSB (w_J7_checkIndex D l hl x1 x0 h e3) (wA_l q1839) q1840 q84 q1841 hy_258 ⟨Nat.le_of_ble_eq_true rfl, Nat.le_of_ble_eq_true rfl⟩ rfl rfl (Nat.le_of_ble_eq_true rfl) dJ7_putCharSB_2 rfl (kU ?_) kN
  refine v_aload_n (pc' := 6) hc_J7_putCharSB dJ7_putCharSB_5 rfl rfl 0 rfl ?_
  refine v_iload_n (pc' := 7) hc_J7_putCharSB dJ7_putCharSB_6 rfl rfl 1 rfl ?_
  refine v_iload_n (pc' := 8) hc_J7_putCharSB dJ7_putCharSB_7 rfl rfl 2 rfl ?_
  obtain ⟨r4, h5, e6, e⟩ := bd2_of e
  refine k_S (pc' := 11) (n := 3) hc_J7_putCharSB ho_J7_putCharSB (w_J7_putChar D l hl x0 x1 x2 h2 e6) (wA_l q671) q672 q84 q673 hy_293 ⟨Nat.le_of_ble_eq_true rfl, Nat.le_of_ble_eq_true rfl⟩ rfl rfl (Nat.le_of_ble_eq_true rfl) dJ7_putCharSB_8 rfl (kU ?_) kN
  obtain ⟨rfl, rfl⟩ := ret_of e
  exact v_ret hc_J7_putCharSB rfl dJ7_putCharSB_11 rfl rfl
theorem w_J7_putCharSB (D : va_G) (l : Launch) (hl : l.stackTraces = false) (x0 : Nat) (x1 : Int32) (x2 : Int32) (h : AH) {r : Unit} {hF : AH} (e : f_J7_putCharSB x0 x1 x2 h = some (r, hF)) : MetV D l yJ7_putCharSB (Cond.code yJ7_putCharSB cJ7_putCharSB 3 (Option.none : Option FieldType)) 4 112 [.ref x0, .int x1, .int x2] h hF (oV r) :=
  met_ofF (by decide +kernel) hl (Nat.le_of_ble_eq_true rfl) rfl (v_J7_putCharSB D l hl [.ref x0, .int x1, .int x2] h x0 x1 x2 h e)
/-! java/lang/StringLatin1.inflate([BI[BII)V  -/
abbrev G_J17_inflate (D : va_G) (l : Launch) (as : List Value) (h0 hF : AH) (o : Out) : CT := (D, l, (yJ17_inflate.cls, yJ17_inflate, cJ17_inflate, 5, (Option.none : Option FieldType), 1, 48, []), as, h0, hF, o)
theorem hc_J17_inflate {D : va_G} {l : Launch} {as : List Value} {h0 hF : AH} {o : Out} : gC (G_J17_inflate D l as h0 hF o) = cJ17_inflate := rfl
theorem ho_J17_inflate {D : va_G} {l : Launch} {as : List Value} {h0 hF : AH} {o : Out} : gO (G_J17_inflate D l as h0 hF o) = "java/lang/StringLatin1" := rfl
theorem hp_J17_inflate {D : va_G} {l : Launch} {as : List Value} {h0 hF : AH} {o : Out} (pc : Nat) : ∀ z ∈ tableOf (gHd (G_J17_inflate D l as h0 hF o)), covers z pc = false := hpN
def f_J17_inflate (x0 : Nat) (x1 : Int32) (x2 : Nat) (x3 : Int32) (x4 : Int32) (h : AH) : Option (Unit × AH) :=
  none
theorem v_J17_inflate (D : va_G) (l : Launch) (hl : l.stackTraces = false) (as : List Value) (h0 : AH) {r : Unit} {hF : AH} (x0 : Nat) (x1 : Int32) (x2 : Nat) (x3 : Int32) (x4 : Int32) (h : AH) (e : f_J17_inflate x0 x1 x2 x3 x4 h = some (r, hF)) : V (G_J17_inflate D l as h0 hF (oV r)) h 0 [(0, .ref x0), (1, .int x1), (2, .ref x2), (3, .int x3), (4, .int x4)] [] := by
  unfold f_J17_inflate at e
  refine v_aload_n (pc' := 1) hc_J17_inflate dJ17_inflate_0 rfl rfl 0 rfl ?_
  refine v_iload_n (pc' := 2) hc_J17_inflate dJ17_inflate_1 rfl rfl 1 rfl ?_
  refine v_aload_n (pc' := 3) hc_J17_inflate dJ17_inflate_2 rfl rfl 2 rfl ?_
  refine v_iload_n (pc' := 4) hc_J17_inflate dJ17_inflate_3 rfl rfl 3 rfl ?_
  refine v_iload (pc' := 6) hc_J17_inflate dJ17_inflate_4 rfl 4 rfl ?_
  exact nomatch e
theorem w_J17_inflate (D : va_G) (l : Launch) (hl : l.stackTraces = false) (x0 : Nat) (x1 : Int32) (x2 : Nat) (x3 : Int32) (x4 : Int32) (h : AH) {r : Unit} {hF : AH} (e : f_J17_inflate x0 x1 x2 x3 x4 h = some (r, hF)) : MetV D l yJ17_inflate (Cond.code yJ17_inflate cJ17_inflate 5 (Option.none : Option FieldType)) 1 48 [.ref x0, .int x1, .ref x2, .int x3, .int x4] h hF (oV r) :=
  met_ofF (by decide +kernel) hl (Nat.le_of_ble_eq_true rfl) rfl (v_J17_inflate D l hl [.ref x0, .int x1, .ref x2, .int x3, .int x4] h x0 x1 x2 x3 x4 h e)
/-! java/lang/AbstractStringBuilder.inflate()V  -/
abbrev G_J4_inflate (D : va_G) (l : Launch) (as : List Value) (h0 hF : AH) (o : Out) : CT := (D, l, (yJ4_inflate.cls, yJ4_inflate, cJ4_inflate, 2, (Option.none : Option FieldType), 3, 88, []), as, h0, hF, o)
theorem hc_J4_inflate {D : va_G} {l : Launch} {as : List Value} {h0 hF : AH} {o : Out} : gC (G_J4_inflate D l as h0 hF o) = cJ4_inflate := rfl
theorem ho_J4_inflate {D : va_G} {l : Launch} {as : List Value} {h0 hF : AH} {o : Out} : gO (G_J4_inflate D l as h0 hF o) = "java/lang/AbstractStringBuilder" := rfl
theorem hp_J4_inflate {D : va_G} {l : Launch} {as : List Value} {h0 hF : AH} {o : Out} (pc : Nat) : ∀ z ∈ tableOf (gHd (G_J4_inflate D l as h0 hF o)), covers z pc = false := hpN
def f_J4_inflate (x0 : Nat) (h : AH) : Option (Unit × AH) :=
  gd (isC h 18 x0) <|
  bd2 (f_J4_isLatin1 x0 h) fun r2 h3 =>
  if r2 = 0 then (
    some ((), h3)
  ) else (
    bd (gtR h3 18 x0 0) fun v5 =>
    bd (aLn h3 v5) fun v6 =>
    bd2 (f_J7_newBytesFor v6 h3) fun r7 h8 =>
    bd (gtR h8 18 x0 0) fun v10 =>
    bd (gtI h8 18 x0 3) fun v11 =>
    bd2 (f_J17_inflate v10 (0 : Int32) r7 (0 : Int32) v11 h8) fun r12 h13 =>
    bd (stF h13 18 x0 0 (.ref r7)) fun h15 =>
    bd (stF h15 18 x0 1 (.int (1 : Int32))) fun h16 =>
    some ((), h16)
  )
theorem v_J4_inflate (D : va_G) (l : Launch) (hl : l.stackTraces = false) (as : List Value) (h0 : AH) {r : Unit} {hF : AH} (x0 : Nat) (h : AH) (e : f_J4_inflate x0 h = some (r, hF)) : V (G_J4_inflate D l as h0 hF (oV r)) h 0 [(0, .ref x0)] [] := by
  unfold f_J4_inflate at e
  refine v_aload_n (pc' := 1) hc_J4_inflate dJ4_inflate_0 rfl rfl 0 rfl ?_
  obtain ⟨c1, e⟩ := gd_of e
  obtain ⟨r2, h3, e4, e⟩ := bd2_of e
  refine k_V (pc' := 4) (ci := 18) (n := 0) hc_J4_inflate ho_J4_inflate rfl c1 (w_J4_isLatin1 D l hl x0 h e4) (wA_l q638) q639 (wA_l q641) q81 q642 hy_227 ⟨Nat.le_of_ble_eq_true rfl, Nat.le_of_ble_eq_true rfl⟩ rfl rfl (Nat.le_of_ble_eq_true rfl) dJ4_inflate_1 rfl (kS ?_) kN
  refine v_if_ne (pt := 8) (pf := 7) hc_J4_inflate dJ4_inflate_4 rfl rfl e (fun _ e => ?_) (fun _ e => ?_)
  · obtain ⟨rfl, rfl⟩ := ret_of e
    exact v_ret hc_J4_inflate rfl dJ4_inflate_7 rfl rfl
  · refine v_aload_n (pc' := 9) hc_J4_inflate dJ4_inflate_8 rfl rfl 0 rfl ?_
    refine v_gfR (pc' := 12) hc_J4_inflate ho_J4_inflate KJ5 0 (Nat.le_of_ble_eq_true rfl) q219 (Or.inl rfl) dJ4_inflate_9 rfl e (fun v5 _ e => ?_)
    refine v_alen (pc' := 13) hc_J4_inflate dJ4_inflate_12 rfl e (fun v6 _ e => ?_)
    obtain ⟨r7, h8, e9, e⟩ := bd2_of e
    refine k_S (pc' := 16) (n := 1) hc_J4_inflate ho_J4_inflate (w_J7_newBytesFor D l hl v6 h3 e9) (wA_l q212) q213 q84 q214 hy_245 ⟨Nat.le_of_ble_eq_true rfl, Nat.le_of_ble_eq_true rfl⟩ rfl rfl (Nat.le_of_ble_eq_true rfl) dJ4_inflate_13 rfl (kS ?_) kN
    refine v_astore_n (pc' := 17) (lv' := [(1, .ref r7), (0, .ref x0)]) hc_J4_inflate dJ4_inflate_16 rfl rfl (Nat.le_of_ble_eq_true rfl) rfl ?_
    refine v_aload_n (pc' := 18) hc_J4_inflate dJ4_inflate_17 rfl rfl 1 rfl ?_
    refine v_gfR (pc' := 21) hc_J4_inflate ho_J4_inflate KJ5 0 (Nat.le_of_ble_eq_true rfl) q219 (Or.inl rfl) dJ4_inflate_18 rfl e (fun v10 _ e => ?_)
    refine v_iconst (pc' := 22) (v := 0) hc_J4_inflate dJ4_inflate_21 rfl rfl ?_
    refine v_aload_n (pc' := 23) hc_J4_inflate dJ4_inflate_22 rfl rfl 0 rfl ?_
    refine v_iconst (pc' := 24) (v := 0) hc_J4_inflate dJ4_inflate_23 rfl rfl ?_
    refine v_aload_n (pc' := 25) hc_J4_inflate dJ4_inflate_24 rfl rfl 1 rfl ?_
    refine v_gfI (pc' := 28) hc_J4_inflate ho_J4_inflate KJ5 3 (Nat.le_of_ble_eq_true rfl) q223 (Or.inl rfl) dJ4_inflate_25 rfl e (fun v11 _ e => ?_)
    obtain ⟨r12, h13, e14, e⟩ := bd2_of e
    refine k_S (pc' := 31) (n := 5) hc_J4_inflate ho_J4_inflate (w_J17_inflate D l hl v10 (0 : Int32) r7 (0 : Int32) v11 h8 e14) (wA_l q718) q719 q98 q720 hy_295 ⟨Nat.le_of_ble_eq_true rfl, Nat.le_of_ble_eq_true rfl⟩ rfl rfl (Nat.le_of_ble_eq_true rfl) dJ4_inflate_28 rfl (kU ?_) kN
    refine v_aload_n (pc' := 32) hc_J4_inflate dJ4_inflate_31 rfl rfl 1 rfl ?_
    refine v_aload_n (pc' := 33) hc_J4_inflate dJ4_inflate_32 rfl rfl 0 rfl ?_
    refine v_pf (pc' := 36) hc_J4_inflate ho_J4_inflate KJ5 0 (Nat.le_of_ble_eq_true rfl) q219 (Or.inl rfl) rfl dJ4_inflate_33 rfl rfl rfl e (fun h15 _ e => ?_)
    refine v_aload_n (pc' := 37) hc_J4_inflate dJ4_inflate_36 rfl rfl 1 rfl ?_
    refine v_iconst (pc' := 38) (v := 1) hc_J4_inflate dJ4_inflate_37 rfl rfl ?_
    refine v_pf (pc' := 41) hc_J4_inflate ho_J4_inflate KJ5 1 (Nat.le_of_ble_eq_true rfl) q220 (Or.inl rfl) rfl dJ4_inflate_38 rfl rfl rfl e (fun h16 _ e => ?_)
    obtain ⟨rfl, rfl⟩ := ret_of e
    exact v_ret hc_J4_inflate rfl dJ4_inflate_41 rfl rfl
theorem w_J4_inflate (D : va_G) (l : Launch) (hl : l.stackTraces = false) (x0 : Nat) (h : AH) {r : Unit} {hF : AH} (e : f_J4_inflate x0 h = some (r, hF)) : MetV D l yJ4_inflate (Cond.code yJ4_inflate cJ4_inflate 2 (Option.none : Option FieldType)) 3 88 [.ref x0] h hF (oV r) :=
  met_ofF (by decide +kernel) hl (Nat.le_of_ble_eq_true rfl) rfl (v_J4_inflate D l hl [.ref x0] h x0 h e)
/-! java/lang/StringLatin1.canEncode(C)Z  -/
abbrev G_J17_canEncode (D : va_G) (l : Launch) (as : List Value) (h0 hF : AH) (o : Out) : CT := (D, l, (yJ17_canEncode.cls, yJ17_canEncode, cJ17_canEncode, 1, (Option.some .boolean), 1, 48, []), as, h0, hF, o)
theorem hc_J17_canEncode {D : va_G} {l : Launch} {as : List Value} {h0 hF : AH} {o : Out} : gC (G_J17_canEncode D l as h0 hF o) = cJ17_canEncode := rfl
theorem ho_J17_canEncode {D : va_G} {l : Launch} {as : List Value} {h0 hF : AH} {o : Out} : gO (G_J17_canEncode D l as h0 hF o) = "java/lang/StringLatin1" := rfl
theorem hp_J17_canEncode {D : va_G} {l : Launch} {as : List Value} {h0 hF : AH} {o : Out} (pc : Nat) : ∀ z ∈ tableOf (gHd (G_J17_canEncode D l as h0 hF o)), covers z pc = false := hpN
def f_J17_canEncode (x0 : Int32) (h : AH) : Option (Int32 × AH) :=
  if (255 : Int32) < x0 then (
    some ((0 : Int32), h)
  ) else (
    some ((1 : Int32), h)
  )
theorem v_J17_canEncode (D : va_G) (l : Launch) (hl : l.stackTraces = false) (as : List Value) (h0 : AH) {r : Int32} {hF : AH} (x0 : Int32) (h : AH) (e : f_J17_canEncode x0 h = some (r, hF)) : V (G_J17_canEncode D l as h0 hF (oI r)) h 0 [(0, .int x0)] [] := by
  unfold f_J17_canEncode at e
  refine v_iload_n (pc' := 1) hc_J17_canEncode dJ17_canEncode_0 rfl rfl 0 rfl ?_
  refine v_sipush (pc' := 4) (v := 255) hc_J17_canEncode dJ17_canEncode_1 rfl rfl ?_
  refine v_icmp_gt (pt := 11) (pf := 7) hc_J17_canEncode dJ17_canEncode_4 rfl rfl e (fun _ e => ?_) (fun _ e => ?_)
  · refine v_iconst (pc' := 12) (v := 0) hc_J17_canEncode dJ17_canEncode_11 rfl rfl ?_
    obtain ⟨rfl, rfl⟩ := ret_of e
    exact v_zret hc_J17_canEncode rfl (ft := .boolean) rfl dJ17_canEncode_12 rfl rfl
  · refine v_iconst (pc' := 8) (v := 1) hc_J17_canEncode dJ17_canEncode_7 rfl rfl ?_
    refine v_goto (pt := 12) hc_J17_canEncode dJ17_canEncode_8 rfl ?_
    obtain ⟨rfl, rfl⟩ := ret_of e
    exact v_zret hc_J17_canEncode rfl (ft := .boolean) rfl dJ17_canEncode_12 rfl rfl
theorem w_J17_canEncode (D : va_G) (l : Launch) (hl : l.stackTraces = false) (x0 : Int32) (h : AH) {r : Int32} {hF : AH} (e : f_J17_canEncode x0 h = some (r, hF)) : MetV D l yJ17_canEncode (Cond.code yJ17_canEncode cJ17_canEncode 1 (Option.some .boolean)) 1 48 [.int x0] h hF (oI r) :=
  met_ofF (by decide +kernel) hl (Nat.le_of_ble_eq_true rfl) rfl (v_J17_canEncode D l hl [.int x0] h x0 h e)
/-! java/lang/AbstractStringBuilder.append(C)Ljava/lang/AbstractStringBuilder;  -/
abbrev G_J4_append_6 (D : va_G) (l : Launch) (as : List Value) (h0 hF : AH) (o : Out) : CT := (D, l, (yJ4_append_6.cls, yJ4_append_6, cJ4_append_6, 2, (Option.some (.object "java/lang/AbstractStringBuilder")), 5, 139, []), as, h0, hF, o)
theorem hc_J4_append_6 {D : va_G} {l : Launch} {as : List Value} {h0 hF : AH} {o : Out} : gC (G_J4_append_6 D l as h0 hF o) = cJ4_append_6 := rfl
theorem ho_J4_append_6 {D : va_G} {l : Launch} {as : List Value} {h0 hF : AH} {o : Out} : gO (G_J4_append_6 D l as h0 hF o) = "java/lang/AbstractStringBuilder" := rfl
theorem hp_J4_append_6 {D : va_G} {l : Launch} {as : List Value} {h0 hF : AH} {o : Out} (pc : Nat) : ∀ z ∈ tableOf (gHd (G_J4_append_6 D l as h0 hF o)), covers z pc = false := hpN
def f_J4_append_6_j56 (x0 : Nat) (x1 : Int32) (h : AH) : Option (Nat × AH) :=
  bd (gtR h 18 x0 0) fun v1 =>
  bd (gtI h 18 x0 3) fun v2 =>
  bd (stF h 18 x0 3 (.int (v2 + (1 : Int32)))) fun h3 =>
  bd2 (f_J7_putCharSB v1 v2 x1 h3) fun r4 h5 =>
  some (x0, h5)
theorem w_J4_append_6_j56 (D : va_G) (l : Launch) (hl : l.stackTraces = false) (as : List Value) (h0 : AH) {r : Nat} {hF : AH} (x0 : Nat) (x1 : Int32) (h : AH) (e : f_J4_append_6_j56 x0 x1 h = some (r, hF)) : V (G_J4_append_6 D l as h0 hF (oR r)) h 56 [(0, .ref x0), (1, .int x1)] [] := by
  unfold f_J4_append_6_j56 at e
  refine v_aload_n (pc' := 57) hc_J4_append_6 dJ4_append_6_56 rfl rfl 0 rfl ?_
  refine v_gfR (pc' := 60) hc_J4_append_6 ho_J4_append_6 KJ5 0 (Nat.le_of_ble_eq_true rfl) q219 (Or.inl rfl) dJ4_append_6_57 rfl e (fun v1 _ e => ?_)
  refine v_aload_n (pc' := 61) hc_J4_append_6 dJ4_append_6_60 rfl rfl 0 rfl ?_
  refine v_dup (pc' := 62) hc_J4_append_6 dJ4_append_6_61 rfl rfl ?_
  refine v_gfI (pc' := 65) hc_J4_append_6 ho_J4_append_6 KJ5 3 (Nat.le_of_ble_eq_true rfl) q223 (Or.inl rfl) dJ4_append_6_62 rfl e (fun v2 _ e => ?_)
  refine v_dup_x1 (pc' := 66) hc_J4_append_6 dJ4_append_6_65 rfl rfl rfl ?_
  refine v_iconst (pc' := 67) (v := 1) hc_J4_append_6 dJ4_append_6_66 rfl rfl ?_
  refine v_iadd (pc' := 68) hc_J4_append_6 dJ4_append_6_67 rfl ?_
  refine v_pf (pc' := 71) hc_J4_append_6 ho_J4_append_6 KJ5 3 (Nat.le_of_ble_eq_true rfl) q223 (Or.inl rfl) rfl dJ4_append_6_68 rfl rfl rfl e (fun h3 _ e => ?_)
  refine v_iload_n (pc' := 72) hc_J4_append_6 dJ4_append_6_71 rfl rfl 1 rfl ?_
  obtain ⟨r4, h5, e6, e⟩ := bd2_of e
  refine k_S (pc' := 75) (n := 3) hc_J4_append_6 ho_J4_append_6 (w_J7_putCharSB D l hl v1 v2 x1 h3 e6) (wA_l q1873) q1874 q84 q1875 hy_294 ⟨Nat.le_of_ble_eq_true rfl, Nat.le_of_ble_eq_true rfl⟩ rfl rfl (Nat.le_of_ble_eq_true rfl) dJ4_append_6_72 rfl (kU ?_) kN
  refine v_aload_n (pc' := 76) hc_J4_append_6 dJ4_append_6_75 rfl rfl 0 rfl ?_
  obtain ⟨rfl, rfl⟩ := ret_of e
  exact v_aret hc_J4_append_6 rfl (Or.inl ⟨_, rfl⟩) (Or.inr ⟨_, rfl⟩) dJ4_append_6_76 rfl rfl
def f_J4_append_6 (x0 : Nat) (x1 : Int32) (h : AH) : Option (Nat × AH) :=
  bd (gtI h 18 x0 3) fun v1 =>
  gd (isC h 18 x0) <|
  bd2 (f_J4_ensureCapacityInternal x0 (v1 + (1 : Int32)) h) fun r3 h4 =>
  gd (isC h4 18 x0) <|
  bd2 (f_J4_isLatin1 x0 h4) fun r7 h8 =>
  if r7 = 0 then (
    gd (isC h8 18 x0) <|
    bd2 (f_J4_isLatin1 x0 h8) fun r11 h12 =>
    if r11 = 0 then (
      f_J4_append_6_j56 x0 x1 h12
    ) else (
      gd (isC h12 18 x0) <|
      bd2 (f_J4_inflate x0 h12) fun r15 h16 =>
      f_J4_append_6_j56 x0 x1 h16
    )
  ) else (
    bd2 (f_J17_canEncode x1 h8) fun r18 h19 =>
    if r18 = 0 then (
      gd (isC h19 18 x0) <|
      bd2 (f_J4_isLatin1 x0 h19) fun r22 h23 =>
      if r22 = 0 then (
        f_J4_append_6_j56 x0 x1 h23
      ) else (
        gd (isC h23 18 x0) <|
        bd2 (f_J4_inflate x0 h23) fun r26 h27 =>
        f_J4_append_6_j56 x0 x1 h27
      )
    ) else (
      bd (gtR h19 18 x0 0) fun v29 =>
      bd (gtI h19 18 x0 3) fun v30 =>
      bd (stF h19 18 x0 3 (.int (v30 + (1 : Int32)))) fun h31 =>
      bd (stB h31 v29 v30 x1.toInt8.toInt32) fun h32 =>
      some (x0, h32)
    )
  )
theorem v_J4_append_6 (D : va_G) (l : Launch) (hl : l.stackTraces = false) (as : List Value) (h0 : AH) {r : Nat} {hF : AH} (x0 : Nat) (x1 : Int32) (h : AH) (e : f_J4_append_6 x0 x1 h = some (r, hF)) : V (G_J4_append_6 D l as h0 hF (oR r)) h 0 [(0, .ref x0), (1, .int x1)] [] := by
  unfold f_J4_append_6 at e
  refine v_aload_n (pc' := 1) hc_J4_append_6 dJ4_append_6_0 rfl rfl 0 rfl ?_
  refine v_aload_n (pc' := 2) hc_J4_append_6 dJ4_append_6_1 rfl rfl 0 rfl ?_
  refine v_gfI (pc' := 5) hc_J4_append_6 ho_J4_append_6 KJ5 3 (Nat.le_of_ble_eq_true rfl) q223 (Or.inl rfl) dJ4_append_6_2 rfl e (fun v1 _ e => ?_)
  refine v_iconst (pc' := 6) (v := 1) hc_J4_append_6 dJ4_append_6_5 rfl rfl ?_
  refine v_iadd (pc' := 7) hc_J4_append_6 dJ4_append_6_6 rfl ?_
  obtain ⟨c2, e⟩ := gd_of e
  obtain ⟨r3, h4, e5, e⟩ := bd2_of e
  refine k_V (pc' := 10) (ci := 18) (n := 1) hc_J4_append_6 ho_J4_append_6 rfl c2 (w_J4_ensureCapacityInternal D l hl x0 (v1 + (1 : Int32)) h e5) (wA_l q603) q605 qxp0 q81 q606 hy_226 ⟨Nat.le_of_ble_eq_true rfl, Nat.le_of_ble_eq_true rfl⟩ rfl rfl (Nat.le_of_ble_eq_true rfl) dJ4_append_6_7 rfl (kU ?_) kN
  refine v_aload_n (pc' := 11) hc_J4_append_6 dJ4_append_6_10 rfl rfl 0 rfl ?_
  obtain ⟨c6, e⟩ := gd_of e
  obtain ⟨r7, h8, e9, e⟩ := bd2_of e
  refine k_V (pc' := 14) (ci := 18) (n := 0) hc_J4_append_6 ho_J4_append_6 rfl c6 (w_J4_isLatin1 D l hl x0 h4 e9) (wA_l q638) q639 (wA_l q641) q81 q642 hy_227 ⟨Nat.le_of_ble_eq_true rfl, Nat.le_of_ble_eq_true rfl⟩ rfl rfl (Nat.le_of_ble_eq_true rfl) dJ4_append_6_11 rfl (kS ?_) kN
  refine v_if_eq (pt := 45) (pf := 17) hc_J4_append_6 dJ4_append_6_14 rfl rfl e (fun _ e => ?_) (fun _ e => ?_)
  · refine v_aload_n (pc' := 46) hc_J4_append_6 dJ4_append_6_45 rfl rfl 0 rfl ?_
    obtain ⟨c10, e⟩ := gd_of e
    obtain ⟨r11, h12, e13, e⟩ := bd2_of e
    refine k_V (pc' := 49) (ci := 18) (n := 0) hc_J4_append_6 ho_J4_append_6 rfl c10 (w_J4_isLatin1 D l hl x0 h8 e13) (wA_l q638) q639 (wA_l q641) q81 q642 hy_227 ⟨Nat.le_of_ble_eq_true rfl, Nat.le_of_ble_eq_true rfl⟩ rfl rfl (Nat.le_of_ble_eq_true rfl) dJ4_append_6_46 rfl (kS ?_) kN
    refine v_if_eq (pt := 56) (pf := 52) hc_J4_append_6 dJ4_append_6_49 rfl rfl e (fun _ e => ?_) (fun _ e => ?_)
    · exact w_J4_append_6_j56 D l hl as h0 x0 x1 h12 e
    · refine v_aload_n (pc' := 53) hc_J4_append_6 dJ4_append_6_52 rfl rfl 0 rfl ?_
      obtain ⟨c14, e⟩ := gd_of e
      obtain ⟨r15, h16, e17, e⟩ := bd2_of e
      refine k_V (pc' := 56) (ci := 18) (n := 0) hc_J4_append_6 ho_J4_append_6 rfl c14 (w_J4_inflate D l hl x0 h12 e17) (wA_l q714) q716 qxp1 q81 q717 hy_296 ⟨Nat.le_of_ble_eq_true rfl, Nat.le_of_ble_eq_true rfl⟩ rfl rfl (Nat.le_of_ble_eq_true rfl) dJ4_append_6_53 rfl (kU ?_) kN
      exact w_J4_append_6_j56 D l hl as h0 x0 x1 h16 e
  · refine v_iload_n (pc' := 18) hc_J4_append_6 dJ4_append_6_17 rfl rfl 1 rfl ?_
    obtain ⟨r18, h19, e20, e⟩ := bd2_of e
    refine k_S (pc' := 21) (n := 1) hc_J4_append_6 ho_J4_append_6 (w_J17_canEncode D l hl x1 h8 e20) (wA_l q1843) q1844 q98 q1845 hy_297 ⟨Nat.le_of_ble_eq_true rfl, Nat.le_of_ble_eq_true rfl⟩ rfl rfl (Nat.le_of_ble_eq_true rfl) dJ4_append_6_18 rfl (kS ?_) kN
    refine v_if_eq (pt := 45) (pf := 24) hc_J4_append_6 dJ4_append_6_21 rfl rfl e (fun _ e => ?_) (fun _ e => ?_)
    · refine v_aload_n (pc' := 46) hc_J4_append_6 dJ4_append_6_45 rfl rfl 0 rfl ?_
      obtain ⟨c21, e⟩ := gd_of e
      obtain ⟨r22, h23, e24, e⟩ := bd2_of e
      refine k_V (pc' := 49) (ci := 18) (n := 0) hc_J4_append_6 ho_J4_append_6 rfl c21 (w_J4_isLatin1 D l hl x0 h19 e24) (wA_l q638) q639 (wA_l q641) q81 q642 hy_227 ⟨Nat.le_of_ble_eq_true rfl, Nat.le_of_ble_eq_true rfl⟩ rfl rfl (Nat.le_of_ble_eq_true rfl) dJ4_append_6_46 rfl (kS ?_) kN
      refine v_if_eq (pt := 56) (pf := 52) hc_J4_append_6 dJ4_append_6_49 rfl rfl e (fun _ e => ?_) (fun _ e => ?_)
      · exact w_J4_append_6_j56 D l hl as h0 x0 x1 h23 e
      · refine v_aload_n (pc' := 53) hc_J4_append_6 dJ4_append_6_52 rfl rfl 0 rfl ?_
        obtain ⟨c25, e⟩ := gd_of e
        obtain ⟨r26, h27, e28, e⟩ := bd2_of e
        refine k_V (pc' := 56) (ci := 18) (n := 0) hc_J4_append_6 ho_J4_append_6 rfl c25 (w_J4_inflate D l hl x0 h23 e28) (wA_l q714) q716 qxp1 q81 q717 hy_296 ⟨Nat.le_of_ble_eq_true rfl, Nat.le_of_ble_eq_true rfl⟩ rfl rfl (Nat.le_of_ble_eq_true rfl) dJ4_append_6_53 rfl (kU ?_) kN
        exact w_J4_append_6_j56 D l hl as h0 x0 x1 h27 e
    · refine v_aload_n (pc' := 25) hc_J4_append_6 dJ4_append_6_24 rfl rfl 0 rfl ?_
      refine v_gfR (pc' := 28) hc_J4_append_6 ho_J4_append_6 KJ5 0 (Nat.le_of_ble_eq_true rfl) q219 (Or.inl rfl) dJ4_append_6_25 rfl e (fun v29 _ e => ?_)
      refine v_aload_n (pc' := 29) hc_J4_append_6 dJ4_append_6_28 rfl rfl 0 rfl ?_
      refine v_dup (pc' := 30) hc_J4_append_6 dJ4_append_6_29 rfl rfl ?_
      refine v_gfI (pc' := 33) hc_J4_append_6 ho_J4_append_6 KJ5 3 (Nat.le_of_ble_eq_true rfl) q223 (Or.inl rfl) dJ4_append_6_30 rfl e (fun v30 _ e => ?_)
      refine v_dup_x1 (pc' := 34) hc_J4_append_6 dJ4_append_6_33 rfl rfl rfl ?_
      refine v_iconst (pc' := 35) (v := 1) hc_J4_append_6 dJ4_append_6_34 rfl rfl ?_
      refine v_iadd (pc' := 36) hc_J4_append_6 dJ4_append_6_35 rfl ?_
      refine v_pf (pc' := 39) hc_J4_append_6 ho_J4_append_6 KJ5 3 (Nat.le_of_ble_eq_true rfl) q223 (Or.inl rfl) rfl dJ4_append_6_36 rfl rfl rfl e (fun h31 _ e => ?_)
      refine v_iload_n (pc' := 40) hc_J4_append_6 dJ4_append_6_39 rfl rfl 1 rfl ?_
      refine v_i2b (pc' := 41) hc_J4_append_6 dJ4_append_6_40 rfl ?_
      refine v_bast (pc' := 42) hc_J4_append_6 dJ4_append_6_41 rfl e (fun h32 _ e => ?_)
      refine v_goto (pt := 75) hc_J4_append_6 dJ4_append_6_42 rfl ?_
      refine v_aload_n (pc' := 76) hc_J4_append_6 dJ4_append_6_75 rfl rfl 0 rfl ?_
      obtain ⟨rfl, rfl⟩ := ret_of e
      exact v_aret hc_J4_append_6 rfl (Or.inl ⟨_, rfl⟩) (Or.inr ⟨_, rfl⟩) dJ4_append_6_76 rfl rfl
theorem w_J4_append_6 (D : va_G) (l : Launch) (hl : l.stackTraces = false) (x0 : Nat) (x1 : Int32) (h : AH) {r : Nat} {hF : AH} (e : f_J4_append_6 x0 x1 h = some (r, hF)) : MetV D l yJ4_append_6 (Cond.code yJ4_append_6 cJ4_append_6 2 (Option.some (.object "java/lang/AbstractStringBuilder"))) 5 139 [.ref x0, .int x1] h hF (oR r) :=
  met_ofF (by decide +kernel) hl (Nat.le_of_ble_eq_true rfl) rfl (v_J4_append_6 D l hl [.ref x0, .int x1] h x0 x1 h e)
/-! java/lang/StringBuilder.append(C)Ljava/lang/StringBuilder;  -/
abbrev G_J5_append_7 (D : va_G) (l : Launch) (as : List Value) (h0 hF : AH) (o : Out) : CT := (D, l, (yJ5_append_7.cls, yJ5_append_7, cJ5_append_7, 2, (Option.some (.object "java/lang/StringBuilder")), 6, 160, []), as, h0, hF, o)
theorem hc_J5_append_7 {D : va_G} {l : Launch} {as : List Value} {h0 hF : AH} {o : Out} : gC (G_J5_append_7 D l as h0 hF o) = cJ5_append_7 := rfl
theorem ho_J5_append_7 {D : va_G} {l : Launch} {as : List Value} {h0 hF : AH} {o : Out} : gO (G_J5_append_7 D l as h0 hF o) = "java/lang/StringBuilder" := rfl
theorem hp_J5_append_7 {D : va_G} {l : Launch} {as : List Value} {h0 hF : AH} {o : Out} (pc : Nat) : ∀ z ∈ tableOf (gHd (G_J5_append_7 D l as h0 hF o)), covers z pc = false := hpN
def f_J5_append_7 (x0 : Nat) (x1 : Int32) (h : AH) : Option (Nat × AH) :=
  gd (isC h 18 x0) <|
  bd2 (f_J4_append_6 x0 x1 h) fun r2 h3 =>
  some (x0, h3)
theorem v_J5_append_7 (D : va_G) (l : Launch) (hl : l.stackTraces = false) (as : List Value) (h0 : AH) {r : Nat} {hF : AH} (x0 : Nat) (x1 : Int32) (h : AH) (e : f_J5_append_7 x0 x1 h = some (r, hF)) : V (G_J5_append_7 D l as h0 hF (oR r)) h 0 [(0, .ref x0), (1, .int x1)] [] := by
  unfold f_J5_append_7 at e
  refine v_aload_n (pc' := 1) hc_J5_append_7 dJ5_append_7_0 rfl rfl 0 rfl ?_
  refine v_iload_n (pc' := 2) hc_J5_append_7 dJ5_append_7_1 rfl rfl 1 rfl ?_
  obtain ⟨c1, e⟩ := gd_of e
  obtain ⟨r2, h3, e4, e⟩ := bd2_of e
  refine k_SU (pc' := 5) (x := ⟨"java/lang/AbstractStringBuilder", "append", "(C)Ljava/lang/AbstractStringBuilder;"⟩) (ci := 18) (n := 1) hc_J5_append_7 ho_J5_append_7 rfl c1 (w_J4_append_6 D l hl x0 x1 h e4) (by decide +kernel) (wA_l q1947) (wA_l q2694) q232 q1948 q81 q1949 hy_298 ⟨Nat.le_of_ble_eq_true rfl, Nat.le_of_ble_eq_true rfl⟩ rfl rfl (Nat.le_of_ble_eq_true rfl) dJ5_append_7_2 rfl (kS ?_) kN
  refine v_pop (pc' := 6) hc_J5_append_7 dJ5_append_7_5 rfl rfl ?_
  refine v_aload_n (pc' := 7) hc_J5_append_7 dJ5_append_7_6 rfl rfl 0 rfl ?_
  obtain ⟨rfl, rfl⟩ := ret_of e
  exact v_aret hc_J5_append_7 rfl (Or.inl ⟨_, rfl⟩) (Or.inr ⟨_, rfl⟩) dJ5_append_7_7 rfl rfl
theorem w_J5_append_7 (D : va_G) (l : Launch) (hl : l.stackTraces = false) (x0 : Nat) (x1 : Int32) (h : AH) {r : Nat} {hF : AH} (e : f_J5_append_7 x0 x1 h = some (r, hF)) : MetV D l yJ5_append_7 (Cond.code yJ5_append_7 cJ5_append_7 2 (Option.some (.object "java/lang/StringBuilder"))) 6 160 [.ref x0, .int x1] h hF (oR r) :=
  met_ofF (by decide +kernel) hl (Nat.le_of_ble_eq_true rfl) rfl (v_J5_append_7 D l hl [.ref x0, .int x1] h x0 x1 h e)
/-! java/lang/String.toString()Ljava/lang/String;  -/
abbrev G_J6_toString (D : va_G) (l : Launch) (as : List Value) (h0 hF : AH) (o : Out) : CT := (D, l, (yJ6_toString.cls, yJ6_toString, cJ6_toString, 1, (Option.some (.object "java/lang/String")), 1, 48, []), as, h0, hF, o)
theorem hc_J6_toString {D : va_G} {l : Launch} {as : List Value} {h0 hF : AH} {o : Out} : gC (G_J6_toString D l as h0 hF o) = cJ6_toString := rfl
theorem ho_J6_toString {D : va_G} {l : Launch} {as : List Value} {h0 hF : AH} {o : Out} : gO (G_J6_toString D l as h0 hF o) = "java/lang/String" := rfl
theorem hp_J6_toString {D : va_G} {l : Launch} {as : List Value} {h0 hF : AH} {o : Out} (pc : Nat) : ∀ z ∈ tableOf (gHd (G_J6_toString D l as h0 hF o)), covers z pc = false := hpN
def f_J6_toString (x0 : Nat) (h : AH) : Option (Nat × AH) :=
  some (x0, h)
theorem v_J6_toString (D : va_G) (l : Launch) (hl : l.stackTraces = false) (as : List Value) (h0 : AH) {r : Nat} {hF : AH} (x0 : Nat) (h : AH) (e : f_J6_toString x0 h = some (r, hF)) : V (G_J6_toString D l as h0 hF (oR r)) h 0 [(0, .ref x0)] [] := by
  unfold f_J6_toString at e
  refine v_aload_n (pc' := 1) hc_J6_toString dJ6_toString_0 rfl rfl 0 rfl ?_
  obtain ⟨rfl, rfl⟩ := ret_of e
  exact v_aret hc_J6_toString rfl (Or.inl ⟨_, rfl⟩) (Or.inr ⟨_, rfl⟩) dJ6_toString_1 rfl rfl
theorem w_J6_toString (D : va_G) (l : Launch) (hl : l.stackTraces = false) (x0 : Nat) (h : AH) {r : Nat} {hF : AH} (e : f_J6_toString x0 h = some (r, hF)) : MetV D l yJ6_toString (Cond.code yJ6_toString cJ6_toString 1 (Option.some (.object "java/lang/String"))) 1 48 [.ref x0] h hF (oR r) :=
  met_ofF (by decide +kernel) hl (Nat.le_of_ble_eq_true rfl) rfl (v_J6_toString D l hl [.ref x0] h x0 h e)
/-! java/lang/StringLatin1.indexOf([BI[BII)I  -/
abbrev G_J17_indexOf_2 (D : va_G) (l : Launch) (as : List Value) (h0 hF : AH) (o : Out) : CT := (D, l, (yJ17_indexOf_2.cls, yJ17_indexOf_2, cJ17_indexOf_2, 11, (Option.some .int), 1, 48, []), as, h0, hF, o)
theorem hc_J17_indexOf_2 {D : va_G} {l : Launch} {as : List Value} {h0 hF : AH} {o : Out} : gC (G_J17_indexOf_2 D l as h0 hF o) = cJ17_indexOf_2 := rfl
theorem ho_J17_indexOf_2 {D : va_G} {l : Launch} {as : List Value} {h0 hF : AH} {o : Out} : gO (G_J17_indexOf_2 D l as h0 hF o) = "java/lang/StringLatin1" := rfl
theorem hp_J17_indexOf_2 {D : va_G} {l : Launch} {as : List Value} {h0 hF : AH} {o : Out} (pc : Nat) : ∀ z ∈ tableOf (gHd (G_J17_indexOf_2 D l as h0 hF o)), covers z pc = false := hpN
def fb_J17_indexOf_2_l76 (rec : Nat → Nat → Int32 → Int32 → Int32 → Int32 → Int32 → Int32 → Int32 → AH → Option (Int32 × AH)) (rec14 : Nat → Nat → Int32 → Int32 → Int32 → Int32 → AH → Option (Int32 × AH)) (x0 : Nat) (x2 : Nat) (x3 : Int32) (x5 : Int32) (x6 : Int32) (x7 : Int32) (x8 : Int32) (x9 : Int32) (x10 : Int32) (h : AH) : Option (Int32 × AH) :=
  if x9 ≤ x8 then (
    if x8 = x9 then (
      some (x7, h)
    ) else (
      rec14 x0 x2 x3 x5 x6 (x7 + 1) h
    )
  ) else (
    bd (ldI h 3 x0 x8) fun v1 =>
    bd (ldI h 3 x2 x10) fun v2 =>
    if v1 = v2 then (
      rec x0 x2 x3 x5 x6 x7 (x8 + 1) x9 (x10 + 1) h
    ) else (
      if x8 = x9 then (
        some (x7, h)
      ) else (
        rec14 x0 x2 x3 x5 x6 (x7 + 1) h
      )
    )
  )
def f_J17_indexOf_2_l76 (rec14 : Nat → Nat → Int32 → Int32 → Int32 → Int32 → AH → Option (Int32 × AH)) : Nat → Nat → Nat → Int32 → Int32 → Int32 → Int32 → Int32 → Int32 → Int32 → AH → Option (Int32 × AH)
  | 0 => fun _ _ _ _ _ _ _ _ _ _ => none
  | n + 1 => fb_J17_indexOf_2_l76 (f_J17_indexOf_2_l76 rec14 n) rec14
theorem w_J17_indexOf_2_l76 (D : va_G) (l : Launch) (hl : l.stackTraces = false) (as : List Value) (h0 : AH) {r : Int32} {hF : AH} (rec14 : Nat → Nat → Int32 → Int32 → Int32 → Int32 → AH → Option (Int32 × AH)) (R14 : ∀ x0 x2 x3 x5 x6 x7 k, rec14 x0 x2 x3 x5 x6 x7 k = some (r, hF) → V (G_J17_indexOf_2 D l as h0 hF (oI r)) k 14 [(0, .ref x0), (2, .ref x2), (3, .int x3), (5, .int x5), (6, .int x6), (7, .int x7)] []) : ∀ (n : Nat) (x0 : Nat) (x2 : Nat) (x3 : Int32) (x5 : Int32) (x6 : Int32) (x7 : Int32) (x8 : Int32) (x9 : Int32) (x10 : Int32) (h : AH), f_J17_indexOf_2_l76 rec14 n x0 x2 x3 x5 x6 x7 x8 x9 x10 h = some (r, hF) → V (G_J17_indexOf_2 D l as h0 hF (oI r)) h 76 [(0, .ref x0), (2, .ref x2), (3, .int x3), (5, .int x5), (6, .int x6), (7, .int x7), (8, .int x8), (9, .int x9), (10, .int x10)] [] := by
  intro n; induction n with
  | zero => intro x0 x2 x3 x5 x6 x7 x8 x9 x10 h e; exact absurd (show (none : Option (Int32 × AH)) = some _ from e) (fun z => nomatch z)
  | succ n IH =>
    intro x0 x2 x3 x5 x6 x7 x8 x9 x10 h e
    have e : fb_J17_indexOf_2_l76 (f_J17_indexOf_2_l76 rec14 n) rec14 x0 x2 x3 x5 x6 x7 x8 x9 x10 h = some (r, hF) := e
    unfold fb_J17_indexOf_2_l76 at e
    refine v_iload (pc' := 78) hc_J17_indexOf_2 dJ17_indexOf_2_76 rfl 6 rfl ?_
    refine v_iload (pc' := 80) hc_J17_indexOf_2 dJ17_indexOf_2_78 rfl 7 rfl ?_
    refine v_icmp_ge (pt := 103) (pf := 83) hc_J17_indexOf_2 dJ17_indexOf_2_80 rfl rfl e (fun _ e => ?_) (fun _ e => ?_)
    · refine v_iload (pc' := 105) hc_J17_indexOf_2 dJ17_indexOf_2_103 rfl 6 rfl ?_
      refine v_iload (pc' := 107) hc_J17_indexOf_2 dJ17_indexOf_2_105 rfl 7 rfl ?_
      refine v_icmp_ne (pt := 113) (pf := 110) hc_J17_indexOf_2 dJ17_indexOf_2_107 rfl rfl e (fun _ e => ?_) (fun _ e => ?_)
      · refine v_iload (pc' := 112) hc_J17_indexOf_2 dJ17_indexOf_2_110 rfl 5 rfl ?_
        obtain ⟨rfl, rfl⟩ := ret_of e
        exact v_iret hc_J17_indexOf_2 rfl dJ17_indexOf_2_112 rfl rfl
      · refine v_iinc (pc' := 116) (lv' := [(7, .int (x7 + 1)), (0, .ref x0), (2, .ref x2), (3, .int x3), (5, .int x5), (6, .int x6), (8, .int x8), (9, .int x9), (10, .int x10)]) (v := x7 + 1) hc_J17_indexOf_2 dJ17_indexOf_2_113 rfl 5 rfl rfl (Nat.le_of_ble_eq_true rfl) rfl ?_
        refine v_goto (pt := 14) hc_J17_indexOf_2 dJ17_indexOf_2_116 rfl ?_
        refine v_pick [1, 2, 3, 4, 5, 0] rfl ?_
        exact R14 x0 x2 x3 x5 x6 (x7 + 1) h e
    · refine v_aload_n (pc' := 84) hc_J17_indexOf_2 dJ17_indexOf_2_83 rfl rfl 0 rfl ?_
      refine v_iload (pc' := 86) hc_J17_indexOf_2 dJ17_indexOf_2_84 rfl 6 rfl ?_
      refine v_bald (pc' := 87) hc_J17_indexOf_2 dJ17_indexOf_2_86 rfl e (fun v1 _ e => ?_)
      refine v_aload_n (pc' := 88) hc_J17_indexOf_2 dJ17_indexOf_2_87 rfl rfl 1 rfl ?_
      refine v_iload (pc' := 90) hc_J17_indexOf_2 dJ17_indexOf_2_88 rfl 8 rfl ?_
      refine v_bald (pc' := 91) hc_J17_indexOf_2 dJ17_indexOf_2_90 rfl e (fun v2 _ e => ?_)
      refine v_icmp_ne (pt := 103) (pf := 94) hc_J17_indexOf_2 dJ17_indexOf_2_91 rfl rfl e (fun _ e => ?_) (fun _ e => ?_)
      · refine v_iinc (pc' := 97) (lv' := [(8, .int (x8 + 1)), (0, .ref x0), (2, .ref x2), (3, .int x3), (5, .int x5), (6, .int x6), (7, .int x7), (9, .int x9), (10, .int x10)]) (v := x8 + 1) hc_J17_indexOf_2 dJ17_indexOf_2_94 rfl 6 rfl rfl (Nat.le_of_ble_eq_true rfl) rfl ?_
        refine v_iinc (pc' := 100) (lv' := [(10, .int (x10 + 1)), (8, .int (x8 + 1)), (0, .ref x0), (2, .ref x2), (3, .int x3), (5, .int x5), (6, .int x6), (7, .int x7), (9, .int x9)]) (v := x10 + 1) hc_J17_indexOf_2 dJ17_indexOf_2_97 rfl 8 rfl rfl (Nat.le_of_ble_eq_true rfl) rfl ?_
        refine v_goto (pt := 76) hc_J17_indexOf_2 dJ17_indexOf_2_100 rfl ?_
        refine v_pick [2, 3, 4, 5, 6, 7, 1, 8, 0] rfl ?_
        exact IH x0 x2 x3 x5 x6 x7 (x8 + 1) x9 (x10 + 1) h e
      · refine v_iload (pc' := 105) hc_J17_indexOf_2 dJ17_indexOf_2_103 rfl 6 rfl ?_
        refine v_iload (pc' := 107) hc_J17_indexOf_2 dJ17_indexOf_2_105 rfl 7 rfl ?_
        refine v_icmp_ne (pt := 113) (pf := 110) hc_J17_indexOf_2 dJ17_indexOf_2_107 rfl rfl e (fun _ e => ?_) (fun _ e => ?_)
        · refine v_iload (pc' := 112) hc_J17_indexOf_2 dJ17_indexOf_2_110 rfl 5 rfl ?_
          obtain ⟨rfl, rfl⟩ := ret_of e
          exact v_iret hc_J17_indexOf_2 rfl dJ17_indexOf_2_112 rfl rfl
        · refine v_iinc (pc' := 116) (lv' := [(7, .int (x7 + 1)), (0, .ref x0), (2, .ref x2), (3, .int x3), (5, .int x5), (6, .int x6), (8, .int x8), (9, .int x9), (10, .int x10)]) (v := x7 + 1) hc_J17_indexOf_2 dJ17_indexOf_2_113 rfl 5 rfl rfl (Nat.le_of_ble_eq_true rfl) rfl ?_
          refine v_goto (pt := 14) hc_J17_indexOf_2 dJ17_indexOf_2_116 rfl ?_
          refine v_pick [1, 2, 3, 4, 5, 0] rfl ?_
          exact R14 x0 x2 x3 x5 x6 (x7 + 1) h e
def f_J17_indexOf_2_j52 (rec14 : Nat → Nat → Int32 → Int32 → Int32 → Int32 → AH → Option (Int32 × AH)) (x0 : Nat) (x2 : Nat) (x3 : Int32) (x5 : Int32) (x6 : Int32) (x7 : Int32) (h : AH) : Option (Int32 × AH) :=
  if x6 < x7 then (
    rec14 x0 x2 x3 x5 x6 (x7 + 1) h
  ) else (
    f_J17_indexOf_2_l76 rec14 NN x0 x2 x3 x5 x6 x7 (x7 + (1 : Int32)) (((x7 + (1 : Int32)) + x3) - (1 : Int32)) (1 : Int32) h
  )
theorem w_J17_indexOf_2_j52 (D : va_G) (l : Launch) (hl : l.stackTraces = false) (as : List Value) (h0 : AH) {r : Int32} {hF : AH} (rec14 : Nat → Nat → Int32 → Int32 → Int32 → Int32 → AH → Option (Int32 × AH)) (R14 : ∀ x0 x2 x3 x5 x6 x7 k, rec14 x0 x2 x3 x5 x6 x7 k = some (r, hF) → V (G_J17_indexOf_2 D l as h0 hF (oI r)) k 14 [(0, .ref x0), (2, .ref x2), (3, .int x3), (5, .int x5), (6, .int x6), (7, .int x7)] []) (x0 : Nat) (x2 : Nat) (x3 : Int32) (x5 : Int32) (x6 : Int32) (x7 : Int32) (h : AH) (e : f_J17_indexOf_2_j52 rec14 x0 x2 x3 x5 x6 x7 h = some (r, hF)) : V (G_J17_indexOf_2 D l as h0 hF (oI r)) h 52 [(0, .ref x0), (2, .ref x2), (3, .int x3), (5, .int x5), (6, .int x6), (7, .int x7)] [] := by
  unfold f_J17_indexOf_2_j52 at e
  refine v_iload (pc' := 54) hc_J17_indexOf_2 dJ17_indexOf_2_52 rfl 5 rfl ?_
  refine v_iload (pc' := 56) hc_J17_indexOf_2 dJ17_indexOf_2_54 rfl 4 rfl ?_
  refine v_icmp_gt (pt := 113) (pf := 59) hc_J17_indexOf_2 dJ17_indexOf_2_56 rfl rfl e (fun _ e => ?_) (fun _ e => ?_)
  · refine v_iinc (pc' := 116) (lv' := [(7, .int (x7 + 1)), (0, .ref x0), (2, .ref x2), (3, .int x3), (5, .int x5), (6, .int x6)]) (v := x7 + 1) hc_J17_indexOf_2 dJ17_indexOf_2_113 rfl 5 rfl rfl (Nat.le_of_ble_eq_true rfl) rfl ?_
    refine v_goto (pt := 14) hc_J17_indexOf_2 dJ17_indexOf_2_116 rfl ?_
    refine v_pick [1, 2, 3, 4, 5, 0] rfl ?_
    exact R14 x0 x2 x3 x5 x6 (x7 + 1) h e
  · refine v_iload (pc' := 61) hc_J17_indexOf_2 dJ17_indexOf_2_59 rfl 5 rfl ?_
    refine v_iconst (pc' := 62) (v := 1) hc_J17_indexOf_2 dJ17_indexOf_2_61 rfl rfl ?_
    refine v_iadd (pc' := 63) hc_J17_indexOf_2 dJ17_indexOf_2_62 rfl ?_
    refine v_istore (pc' := 65) (lv' := [(8, .int (x7 + (1 : Int32))), (0, .ref x0), (2, .ref x2), (3, .int x3), (5, .int x5), (6, .int x6), (7, .int x7)]) hc_J17_indexOf_2 dJ17_indexOf_2_63 rfl (Nat.le_of_ble_eq_true rfl) rfl ?_
    refine v_iload (pc' := 67) hc_J17_indexOf_2 dJ17_indexOf_2_65 rfl 0 rfl ?_
    refine v_iload_n (pc' := 68) hc_J17_indexOf_2 dJ17_indexOf_2_67 rfl rfl 3 rfl ?_
    refine v_iadd (pc' := 69) hc_J17_indexOf_2 dJ17_indexOf_2_68 rfl ?_
    refine v_iconst (pc' := 70) (v := 1) hc_J17_indexOf_2 dJ17_indexOf_2_69 rfl rfl ?_
    refine v_isub (pc' := 71) hc_J17_indexOf_2 dJ17_indexOf_2_70 rfl ?_
    refine v_istore (pc' := 73) (lv' := [(9, .int (((x7 + (1 : Int32)) + x3) - (1 : Int32))), (8, .int (x7 + (1 : Int32))), (0, .ref x0), (2, .ref x2), (3, .int x3), (5, .int x5), (6, .int x6), (7, .int x7)]) hc_J17_indexOf_2 dJ17_indexOf_2_71 rfl (Nat.le_of_ble_eq_true rfl) rfl ?_
    refine v_iconst (pc' := 74) (v := 1) hc_J17_indexOf_2 dJ17_indexOf_2_73 rfl rfl ?_
    refine v_istore (pc' := 76) (lv' := [(10, .int (1 : Int32)), (9, .int (((x7 + (1 : Int32)) + x3) - (1 : Int32))), (8, .int (x7 + (1 : Int32))), (0, .ref x0), (2, .ref x2), (3, .int x3), (5, .int x5), (6, .int x6), (7, .int x7)]) hc_J17_indexOf_2 dJ17_indexOf_2_74 rfl (Nat.le_of_ble_eq_true rfl) rfl ?_
    refine v_pick [3, 4, 5, 6, 7, 8, 2, 1, 0] rfl ?_
    exact w_J17_indexOf_2_l76 D l hl as h0 rec14 R14 NN x0 x2 x3 x5 x6 x7 (x7 + (1 : Int32)) (((x7 + (1 : Int32)) + x3) - (1 : Int32)) (1 : Int32) h e
def fb_J17_indexOf_2_l30 (rec : Nat → Nat → Int32 → Int32 → Int32 → Int32 → AH → Option (Int32 × AH)) (rec14 : Nat → Nat → Int32 → Int32 → Int32 → Int32 → AH → Option (Int32 × AH)) (x0 : Nat) (x2 : Nat) (x3 : Int32) (x5 : Int32) (x6 : Int32) (x7 : Int32) (h : AH) : Option (Int32 × AH) :=
  if x6 < (x7 + 1) then (
    f_J17_indexOf_2_j52 rec14 x0 x2 x3 x5 x6 (x7 + 1) h
  ) else (
    bd (ldI h 3 x0 (x7 + 1)) fun v1 =>
    if v1 = x5 then (
      f_J17_indexOf_2_j52 rec14 x0 x2 x3 x5 x6 (x7 + 1) h
    ) else (
      rec x0 x2 x3 x5 x6 (x7 + 1) h
    )
  )
def f_J17_indexOf_2_l30 (rec14 : Nat → Nat → Int32 → Int32 → Int32 → Int32 → AH → Option (Int32 × AH)) : Nat → Nat → Nat → Int32 → Int32 → Int32 → Int32 → AH → Option (Int32 × AH)
  | 0 => fun _ _ _ _ _ _ _ => none
  | n + 1 => fb_J17_indexOf_2_l30 (f_J17_indexOf_2_l30 rec14 n) rec14
theorem w_J17_indexOf_2_l30 (D : va_G) (l : Launch) (hl : l.stackTraces = false) (as : List Value) (h0 : AH) {r : Int32} {hF : AH} (rec14 : Nat → Nat → Int32 → Int32 → Int32 → Int32 → AH → Option (Int32 × AH)) (R14 : ∀ x0 x2 x3 x5 x6 x7 k, rec14 x0 x2 x3 x5 x6 x7 k = some (r, hF) → V (G_J17_indexOf_2 D l as h0 hF (oI r)) k 14 [(0, .ref x0), (2, .ref x2), (3, .int x3), (5, .int x5), (6, .int x6), (7, .int x7)] []) : ∀ (n : Nat) (x0 : Nat) (x2 : Nat) (x3 : Int32) (x5 : Int32) (x6 : Int32) (x7 : Int32) (h : AH), f_J17_indexOf_2_l30 rec14 n x0 x2 x3 x5 x6 x7 h = some (r, hF) → V (G_J17_indexOf_2 D l as h0 hF (oI r)) h 30 [(0, .ref x0), (2, .ref x2), (3, .int x3), (5, .int x5), (6, .int x6), (7, .int x7)] [] := by
  intro n; induction n with
  | zero => intro x0 x2 x3 x5 x6 x7 h e; exact absurd (show (none : Option (Int32 × AH)) = some _ from e) (fun z => nomatch z)
  | succ n IH =>
    intro x0 x2 x3 x5 x6 x7 h e
    have e : fb_J17_indexOf_2_l30 (f_J17_indexOf_2_l30 rec14 n) rec14 x0 x2 x3 x5 x6 x7 h = some (r, hF) := e
    unfold fb_J17_indexOf_2_l30 at e
    refine v_iinc (pc' := 33) (lv' := [(7, .int (x7 + 1)), (0, .ref x0), (2, .ref x2), (3, .int x3), (5, .int x5), (6, .int x6)]) (v := x7 + 1) hc_J17_indexOf_2 dJ17_indexOf_2_30 rfl 5 rfl rfl (Nat.le_of_ble_eq_true rfl) rfl ?_
    refine v_iload (pc' := 35) hc_J17_indexOf_2 dJ17_indexOf_2_33 rfl 0 rfl ?_
    refine v_iload (pc' := 37) hc_J17_indexOf_2 dJ17_indexOf_2_35 rfl 5 rfl ?_
    refine v_icmp_gt (pt := 52) (pf := 40) hc_J17_indexOf_2 dJ17_indexOf_2_37 rfl rfl e (fun _ e => ?_) (fun _ e => ?_)
    · refine v_pick [1, 2, 3, 4, 5, 0] rfl ?_
      exact w_J17_indexOf_2_j52 D l hl as h0 rec14 R14 x0 x2 x3 x5 x6 (x7 + 1) h e
    · refine v_aload_n (pc' := 41) hc_J17_indexOf_2 dJ17_indexOf_2_40 rfl rfl 1 rfl ?_
      refine v_iload (pc' := 43) hc_J17_indexOf_2 dJ17_indexOf_2_41 rfl 0 rfl ?_
      refine v_bald (pc' := 44) hc_J17_indexOf_2 dJ17_indexOf_2_43 rfl e (fun v1 _ e => ?_)
      refine v_iload (pc' := 46) hc_J17_indexOf_2 dJ17_indexOf_2_44 rfl 4 rfl ?_
      refine v_icmp_eq (pt := 52) (pf := 49) hc_J17_indexOf_2 dJ17_indexOf_2_46 rfl rfl e (fun _ e => ?_) (fun _ e => ?_)
      · refine v_pick [1, 2, 3, 4, 5, 0] rfl ?_
        exact w_J17_indexOf_2_j52 D l hl as h0 rec14 R14 x0 x2 x3 x5 x6 (x7 + 1) h e
      · refine v_goto (pt := 30) hc_J17_indexOf_2 dJ17_indexOf_2_49 rfl ?_
        refine v_pick [1, 2, 3, 4, 5, 0] rfl ?_
        exact IH x0 x2 x3 x5 x6 (x7 + 1) h e
def fb_J17_indexOf_2_l14 (rec : Nat → Nat → Int32 → Int32 → Int32 → Int32 → AH → Option (Int32 × AH)) (x0 : Nat) (x2 : Nat) (x3 : Int32) (x5 : Int32) (x6 : Int32) (x7 : Int32) (h : AH) : Option (Int32 × AH) :=
  if x6 < x7 then (
    some ((-1 : Int32), h)
  ) else (
    bd (ldI h 3 x0 x7) fun v1 =>
    if v1 = x5 then (
      f_J17_indexOf_2_j52 rec x0 x2 x3 x5 x6 x7 h
    ) else (
      f_J17_indexOf_2_l30 rec NN x0 x2 x3 x5 x6 x7 h
    )
  )
def f_J17_indexOf_2_l14 : Nat → Nat → Nat → Int32 → Int32 → Int32 → Int32 → AH → Option (Int32 × AH)
  | 0 => fun _ _ _ _ _ _ _ => none
  | n + 1 => fb_J17_indexOf_2_l14 (f_J17_indexOf_2_l14 n) 
theorem w_J17_indexOf_2_l14 (D : va_G) (l : Launch) (hl : l.stackTraces = false) (as : List Value) (h0 : AH) {r : Int32} {hF : AH} : ∀ (n : Nat) (x0 : Nat) (x2 : Nat) (x3 : Int32) (x5 : Int32) (x6 : Int32) (x7 : Int32) (h : AH), f_J17_indexOf_2_l14 n x0 x2 x3 x5 x6 x7 h = some (r, hF) → V (G_J17_indexOf_2 D l as h0 hF (oI r)) h 14 [(0, .ref x0), (2, .ref x2), (3, .int x3), (5, .int x5), (6, .int x6), (7, .int x7)] [] := by
  intro n; induction n with
  | zero => intro x0 x2 x3 x5 x6 x7 h e; exact absurd (show (none : Option (Int32 × AH)) = some _ from e) (fun z => nomatch z)
  | succ n IH =>
    intro x0 x2 x3 x5 x6 x7 h e
    have e : fb_J17_indexOf_2_l14 (f_J17_indexOf_2_l14 n) x0 x2 x3 x5 x6 x7 h = some (r, hF) := e
    unfold fb_J17_indexOf_2_l14 at e
    refine v_iload (pc' := 16) hc_J17_indexOf_2 dJ17_indexOf_2_14 rfl 5 rfl ?_
    refine v_iload (pc' := 18) hc_J17_indexOf_2 dJ17_indexOf_2_16 rfl 4 rfl ?_
    refine v_icmp_gt (pt := 119) (pf := 21) hc_J17_indexOf_2 dJ17_indexOf_2_18 rfl rfl e (fun _ e => ?_) (fun _ e => ?_)
    · refine v_iconst (pc' := 120) (v := (-1)) hc_J17_indexOf_2 dJ17_indexOf_2_119 rfl rfl ?_
      obtain ⟨rfl, rfl⟩ := ret_of e
      exact v_iret hc_J17_indexOf_2 rfl dJ17_indexOf_2_120 rfl rfl
    · refine v_aload_n (pc' := 22) hc_J17_indexOf_2 dJ17_indexOf_2_21 rfl rfl 0 rfl ?_
      refine v_iload (pc' := 24) hc_J17_indexOf_2 dJ17_indexOf_2_22 rfl 5 rfl ?_
      refine v_bald (pc' := 25) hc_J17_indexOf_2 dJ17_indexOf_2_24 rfl e (fun v1 _ e => ?_)
      refine v_iload (pc' := 27) hc_J17_indexOf_2 dJ17_indexOf_2_25 rfl 3 rfl ?_
      refine v_icmp_eq (pt := 52) (pf := 30) hc_J17_indexOf_2 dJ17_indexOf_2_27 rfl rfl e (fun _ e => ?_) (fun _ e => ?_)
      · exact w_J17_indexOf_2_j52 D l hl as h0 (f_J17_indexOf_2_l14 n) IH x0 x2 x3 x5 x6 x7 h e
      · exact w_J17_indexOf_2_l30 D l hl as h0 (f_J17_indexOf_2_l14 n) IH NN x0 x2 x3 x5 x6 x7 h e
def f_J17_indexOf_2 (x0 : Nat) (x1 : Int32) (x2 : Nat) (x3 : Int32) (x4 : Int32) (h : AH) : Option (Int32 × AH) :=
  bd (ldI h 3 x2 (0 : Int32)) fun v1 =>
  f_J17_indexOf_2_l14 NN x0 x2 x3 v1 (x1 - x3) x4 h
theorem v_J17_indexOf_2 (D : va_G) (l : Launch) (hl : l.stackTraces = false) (as : List Value) (h0 : AH) {r : Int32} {hF : AH} (x0 : Nat) (x1 : Int32) (x2 : Nat) (x3 : Int32) (x4 : Int32) (h : AH) (e : f_J17_indexOf_2 x0 x1 x2 x3 x4 h = some (r, hF)) : V (G_J17_indexOf_2 D l as h0 hF (oI r)) h 0 [(0, .ref x0), (1, .int x1), (2, .ref x2), (3, .int x3), (4, .int x4)] [] := by
  unfold f_J17_indexOf_2 at e
  refine v_aload_n (pc' := 1) hc_J17_indexOf_2 dJ17_indexOf_2_0 rfl rfl 2 rfl ?_
  refine v_iconst (pc' := 2) (v := 0) hc_J17_indexOf_2 dJ17_indexOf_2_1 rfl rfl ?_
  refine v_bald (pc' := 3) hc_J17_indexOf_2 dJ17_indexOf_2_2 rfl e (fun v1 _ e => ?_)
  refine v_istore (pc' := 5) (lv' := [(5, .int v1), (0, .ref x0), (1, .int x1), (2, .ref x2), (3, .int x3), (4, .int x4)]) hc_J17_indexOf_2 dJ17_indexOf_2_3 rfl (Nat.le_of_ble_eq_true rfl) rfl ?_
  refine v_iload_n (pc' := 6) hc_J17_indexOf_2 dJ17_indexOf_2_5 rfl rfl 2 rfl ?_
  refine v_iload_n (pc' := 7) hc_J17_indexOf_2 dJ17_indexOf_2_6 rfl rfl 4 rfl ?_
  refine v_isub (pc' := 8) hc_J17_indexOf_2 dJ17_indexOf_2_7 rfl ?_
  refine v_istore (pc' := 10) (lv' := [(6, .int (x1 - x3)), (5, .int v1), (0, .ref x0), (1, .int x1), (2, .ref x2), (3, .int x3), (4, .int x4)]) hc_J17_indexOf_2 dJ17_indexOf_2_8 rfl (Nat.le_of_ble_eq_true rfl) rfl ?_
  refine v_iload (pc' := 12) hc_J17_indexOf_2 dJ17_indexOf_2_10 rfl 6 rfl ?_
  refine v_istore (pc' := 14) (lv' := [(7, .int x4), (6, .int (x1 - x3)), (5, .int v1), (0, .ref x0), (1, .int x1), (2, .ref x2), (3, .int x3), (4, .int x4)]) hc_J17_indexOf_2 dJ17_indexOf_2_12 rfl (Nat.le_of_ble_eq_true rfl) rfl ?_
  refine v_pick [3, 5, 6, 2, 1, 0] rfl ?_
  exact w_J17_indexOf_2_l14 D l hl as h0 NN x0 x2 x3 v1 (x1 - x3) x4 h e
theorem w_J17_indexOf_2 (D : va_G) (l : Launch) (hl : l.stackTraces = false) (x0 : Nat) (x1 : Int32) (x2 : Nat) (x3 : Int32) (x4 : Int32) (h : AH) {r : Int32} {hF : AH} (e : f_J17_indexOf_2 x0 x1 x2 x3 x4 h = some (r, hF)) : MetV D l yJ17_indexOf_2 (Cond.code yJ17_indexOf_2 cJ17_indexOf_2 11 (Option.some .int)) 1 48 [.ref x0, .int x1, .ref x2, .int x3, .int x4] h hF (oI r) :=
  met_ofF (by decide +kernel) hl (Nat.le_of_ble_eq_true rfl) rfl (v_J17_indexOf_2 D l hl [.ref x0, .int x1, .ref x2, .int x3, .int x4] h x0 x1 x2 x3 x4 h e)
/-! java/lang/StringLatin1.indexOf([B[B)I  -/
abbrev G_J17_indexOf (D : va_G) (l : Launch) (as : List Value) (h0 hF : AH) (o : Out) : CT := (D, l, (yJ17_indexOf.cls, yJ17_indexOf, cJ17_indexOf, 2, (Option.some .int), 2, 78, []), as, h0, hF, o)
theorem hc_J17_indexOf {D : va_G} {l : Launch} {as : List Value} {h0 hF : AH} {o : Out} : gC (G_J17_indexOf D l as h0 hF o) = cJ17_indexOf := rfl
theorem ho_J17_indexOf {D : va_G} {l : Launch} {as : List Value} {h0 hF : AH} {o : Out} : gO (G_J17_indexOf D l as h0 hF o) = "java/lang/StringLatin1" := rfl
theorem hp_J17_indexOf {D : va_G} {l : Launch} {as : List Value} {h0 hF : AH} {o : Out} (pc : Nat) : ∀ z ∈ tableOf (gHd (G_J17_indexOf D l as h0 hF o)), covers z pc = false := hpN
def f_J17_indexOf (x0 : Nat) (x1 : Nat) (h : AH) : Option (Int32 × AH) :=
  bd (aLn h x1) fun v1 =>
  if v1 = 0 then (
    some ((0 : Int32), h)
  ) else (
    bd (aLn h x0) fun v2 =>
    if v2 = 0 then (
      some ((-1 : Int32), h)
    ) else (
      bd (aLn h x0) fun v3 =>
      bd (aLn h x1) fun v4 =>
      bd2 (f_J17_indexOf_2 x0 v3 x1 v4 (0 : Int32) h) fun r5 h6 =>
      some (r5, h6)
    )
  )
theorem v_J17_indexOf (D : va_G) (l : Launch) (hl : l.stackTraces = false) (as : List Value) (h0 : AH) {r : Int32} {hF : AH} (x0 : Nat) (x1 : Nat) (h : AH) (e : f_J17_indexOf x0 x1 h = some (r, hF)) : V (G_J17_indexOf D l as h0 hF (oI r)) h 0 [(0, .ref x0), (1, .ref x1)] [] := by
  unfold f_J17_indexOf at e
  refine v_aload_n (pc' := 1) hc_J17_indexOf dJ17_indexOf_0 rfl rfl 1 rfl ?_
  refine v_alen (pc' := 2) hc_J17_indexOf dJ17_indexOf_1 rfl e (fun v1 _ e => ?_)
  refine v_if_ne (pt := 7) (pf := 5) hc_J17_indexOf dJ17_indexOf_2 rfl rfl e (fun _ e => ?_) (fun _ e => ?_)
  · refine v_iconst (pc' := 6) (v := 0) hc_J17_indexOf dJ17_indexOf_5 rfl rfl ?_
    obtain ⟨rfl, rfl⟩ := ret_of e
    exact v_iret hc_J17_indexOf rfl dJ17_indexOf_6 rfl rfl
  · refine v_aload_n (pc' := 8) hc_J17_indexOf dJ17_indexOf_7 rfl rfl 0 rfl ?_
    refine v_alen (pc' := 9) hc_J17_indexOf dJ17_indexOf_8 rfl e (fun v2 _ e => ?_)
    refine v_if_ne (pt := 14) (pf := 12) hc_J17_indexOf dJ17_indexOf_9 rfl rfl e (fun _ e => ?_) (fun _ e => ?_)
    · refine v_iconst (pc' := 13) (v := (-1)) hc_J17_indexOf dJ17_indexOf_12 rfl rfl ?_
      obtain ⟨rfl, rfl⟩ := ret_of e
      exact v_iret hc_J17_indexOf rfl dJ17_indexOf_13 rfl rfl
    · refine v_aload_n (pc' := 15) hc_J17_indexOf dJ17_indexOf_14 rfl rfl 0 rfl ?_
      refine v_aload_n (pc' := 16) hc_J17_indexOf dJ17_indexOf_15 rfl rfl 0 rfl ?_
      refine v_alen (pc' := 17) hc_J17_indexOf dJ17_indexOf_16 rfl e (fun v3 _ e => ?_)
      refine v_aload_n (pc' := 18) hc_J17_indexOf dJ17_indexOf_17 rfl rfl 1 rfl ?_
      refine v_aload_n (pc' := 19) hc_J17_indexOf dJ17_indexOf_18 rfl rfl 1 rfl ?_
      refine v_alen (pc' := 20) hc_J17_indexOf dJ17_indexOf_19 rfl e (fun v4 _ e => ?_)
      refine v_iconst (pc' := 21) (v := 0) hc_J17_indexOf dJ17_indexOf_20 rfl rfl ?_
      obtain ⟨r5, h6, e7, e⟩ := bd2_of e
      refine k_S (pc' := 24) (n := 5) hc_J17_indexOf ho_J17_indexOf (w_J17_indexOf_2 D l hl x0 v3 x1 v4 (0 : Int32) h e7) (wA_l q2018) q2019 q98 q2020 hy_305 ⟨Nat.le_of_ble_eq_true rfl, Nat.le_of_ble_eq_true rfl⟩ rfl rfl (Nat.le_of_ble_eq_true rfl) dJ17_indexOf_21 rfl (kS ?_) kN
      obtain ⟨rfl, rfl⟩ := ret_of e
      exact v_iret hc_J17_indexOf rfl dJ17_indexOf_24 rfl rfl
theorem w_J17_indexOf (D : va_G) (l : Launch) (hl : l.stackTraces = false) (x0 : Nat) (x1 : Nat) (h : AH) {r : Int32} {hF : AH} (e : f_J17_indexOf x0 x1 h = some (r, hF)) : MetV D l yJ17_indexOf (Cond.code yJ17_indexOf cJ17_indexOf 2 (Option.some .int)) 2 78 [.ref x0, .ref x1] h hF (oI r) :=
  met_ofF (by decide +kernel) hl (Nat.le_of_ble_eq_true rfl) rfl (v_J17_indexOf D l hl [.ref x0, .ref x1] h x0 x1 h e)
/-! java/lang/String.indexOf(Ljava/lang/String;)I  -/
abbrev G_J6_indexOf (D : va_G) (l : Launch) (as : List Value) (h0 hF : AH) (o : Out) : CT := (D, l, (yJ6_indexOf.cls, yJ6_indexOf, cJ6_indexOf, 3, (Option.some .int), 3, 99, []), as, h0, hF, o)
theorem hc_J6_indexOf {D : va_G} {l : Launch} {as : List Value} {h0 hF : AH} {o : Out} : gC (G_J6_indexOf D l as h0 hF o) = cJ6_indexOf := rfl
theorem ho_J6_indexOf {D : va_G} {l : Launch} {as : List Value} {h0 hF : AH} {o : Out} : gO (G_J6_indexOf D l as h0 hF o) = "java/lang/String" := rfl
theorem hp_J6_indexOf {D : va_G} {l : Launch} {as : List Value} {h0 hF : AH} {o : Out} (pc : Nat) : ∀ z ∈ tableOf (gHd (G_J6_indexOf D l as h0 hF o)), covers z pc = false := hpN
def f_J6_indexOf (x0 : Nat) (x1 : Nat) (h : AH) : Option (Int32 × AH) :=
  gd (isC h 19 x0) <|
  bd2 (f_J6_coder x0 h) fun r2 h3 =>
  gd (isC h3 19 x1) <|
  bd2 (f_J6_coder x1 h3) fun r6 h7 =>
  if r2 = r6 then (
    gd (isC h7 19 x0) <|
    bd2 (f_J6_isLatin1 x0 h7) fun r10 h11 =>
    if r10 = 0 then (
      bd (gtR h11 19 x0 0) fun v13 =>
      bd (gtR h11 19 x1 0) fun v14 =>
      none
    ) else (
      bd (gtR h11 19 x0 0) fun v15 =>
      bd (gtR h11 19 x1 0) fun v16 =>
      bd2 (f_J17_indexOf v15 v16 h11) fun r17 h18 =>
      some (r17, h18)
    )
  ) else (
    if r2 = 0 then (
      some ((-1 : Int32), h7)
    ) else (
      bd (gtR h7 19 x0 0) fun v20 =>
      bd (gtR h7 19 x1 0) fun v21 =>
      none
    )
  )
theorem v_J6_indexOf (D : va_G) (l : Launch) (hl : l.stackTraces = false) (as : List Value) (h0 : AH) {r : Int32} {hF : AH} (x0 : Nat) (x1 : Nat) (h : AH) (e : f_J6_indexOf x0 x1 h = some (r, hF)) : V (G_J6_indexOf D l as h0 hF (oI r)) h 0 [(0, .ref x0), (1, .ref x1)] [] := by
  unfold f_J6_indexOf at e
  refine v_aload_n (pc' := 1) hc_J6_indexOf dJ6_indexOf_0 rfl rfl 0 rfl ?_
  obtain ⟨c1, e⟩ := gd_of e
  obtain ⟨r2, h3, e4, e⟩ := bd2_of e
  refine k_V (pc' := 4) (ci := 19) (n := 0) hc_J6_indexOf ho_J6_indexOf rfl c1 (w_J6_coder D l hl x0 h e4) (wA_l q700) q701 (wA_l q702) q83 q703 hy_231 ⟨Nat.le_of_ble_eq_true rfl, Nat.le_of_ble_eq_true rfl⟩ rfl rfl (Nat.le_of_ble_eq_true rfl) dJ6_indexOf_1 rfl (kS ?_) kN
  refine v_istore_n (pc' := 5) (lv' := [(2, .int r2), (0, .ref x0), (1, .ref x1)]) hc_J6_indexOf dJ6_indexOf_4 rfl rfl (Nat.le_of_ble_eq_true rfl) rfl ?_
  refine v_iload_n (pc' := 6) hc_J6_indexOf dJ6_indexOf_5 rfl rfl 0 rfl ?_
  refine v_aload_n (pc' := 7) hc_J6_indexOf dJ6_indexOf_6 rfl rfl 2 rfl ?_
  obtain ⟨c5, e⟩ := gd_of e
  obtain ⟨r6, h7, e8, e⟩ := bd2_of e
  refine k_V (pc' := 10) (ci := 19) (n := 0) hc_J6_indexOf ho_J6_indexOf rfl c5 (w_J6_coder D l hl x1 h3 e8) (wA_l q700) q701 (wA_l q702) q83 q703 hy_231 ⟨Nat.le_of_ble_eq_true rfl, Nat.le_of_ble_eq_true rfl⟩ rfl rfl (Nat.le_of_ble_eq_true rfl) dJ6_indexOf_7 rfl (kS ?_) kN
  refine v_icmp_ne (pt := 46) (pf := 13) hc_J6_indexOf dJ6_indexOf_10 rfl rfl e (fun _ e => ?_) (fun _ e => ?_)
  · refine v_aload_n (pc' := 14) hc_J6_indexOf dJ6_indexOf_13 rfl rfl 1 rfl ?_
    obtain ⟨c9, e⟩ := gd_of e
    obtain ⟨r10, h11, e12, e⟩ := bd2_of e
    refine k_V (pc' := 17) (ci := 19) (n := 0) hc_J6_indexOf ho_J6_indexOf rfl c9 (w_J6_isLatin1 D l hl x0 h7 e12) (wA_l q1010) q1011 (wA_l q1012) q83 q1013 hy_31 ⟨Nat.le_of_ble_eq_true rfl, Nat.le_of_ble_eq_true rfl⟩ rfl rfl (Nat.le_of_ble_eq_true rfl) dJ6_indexOf_14 rfl (kS ?_) kN
    refine v_if_eq (pt := 34) (pf := 20) hc_J6_indexOf dJ6_indexOf_17 rfl rfl e (fun _ e => ?_) (fun _ e => ?_)
    · refine v_aload_n (pc' := 35) hc_J6_indexOf dJ6_indexOf_34 rfl rfl 1 rfl ?_
      refine v_gfR (pc' := 38) hc_J6_indexOf ho_J6_indexOf KJ6 0 (Nat.le_of_ble_eq_true rfl) q793 (Or.inl rfl) dJ6_indexOf_35 rfl e (fun v13 _ e => ?_)
      refine v_aload_n (pc' := 39) hc_J6_indexOf dJ6_indexOf_38 rfl rfl 2 rfl ?_
      refine v_gfR (pc' := 42) hc_J6_indexOf ho_J6_indexOf KJ6 0 (Nat.le_of_ble_eq_true rfl) q793 (Or.inl rfl) dJ6_indexOf_39 rfl e (fun v14 _ e => ?_)
      exact nomatch e
    · refine v_aload_n (pc' := 21) hc_J6_indexOf dJ6_indexOf_20 rfl rfl 1 rfl ?_
      refine v_gfR (pc' := 24) hc_J6_indexOf ho_J6_indexOf KJ6 0 (Nat.le_of_ble_eq_true rfl) q793 (Or.inl rfl) dJ6_indexOf_21 rfl e (fun v15 _ e => ?_)
      refine v_aload_n (pc' := 25) hc_J6_indexOf dJ6_indexOf_24 rfl rfl 2 rfl ?_
      refine v_gfR (pc' := 28) hc_J6_indexOf ho_J6_indexOf KJ6 0 (Nat.le_of_ble_eq_true rfl) q793 (Or.inl rfl) dJ6_indexOf_25 rfl e (fun v16 _ e => ?_)
      obtain ⟨r17, h18, e19, e⟩ := bd2_of e
      refine k_S (pc' := 31) (n := 2) hc_J6_indexOf ho_J6_indexOf (w_J17_indexOf D l hl v15 v16 h11 e19) (wA_l q2015) q2016 q98 q2017 hy_306 ⟨Nat.le_of_ble_eq_true rfl, Nat.le_of_ble_eq_true rfl⟩ rfl rfl (Nat.le_of_ble_eq_true rfl) dJ6_indexOf_28 rfl (kS ?_) kN
      refine v_goto (pt := 45) hc_J6_indexOf dJ6_indexOf_31 rfl ?_
      obtain ⟨rfl, rfl⟩ := ret_of e
      exact v_iret hc_J6_indexOf rfl dJ6_indexOf_45 rfl rfl
  · refine v_iload_n (pc' := 47) hc_J6_indexOf dJ6_indexOf_46 rfl rfl 0 rfl ?_
    refine v_if_ne (pt := 52) (pf := 50) hc_J6_indexOf dJ6_indexOf_47 rfl rfl e (fun _ e => ?_) (fun _ e => ?_)
    · refine v_iconst (pc' := 51) (v := (-1)) hc_J6_indexOf dJ6_indexOf_50 rfl rfl ?_
      obtain ⟨rfl, rfl⟩ := ret_of e
      exact v_iret hc_J6_indexOf rfl dJ6_indexOf_51 rfl rfl
    · refine v_aload_n (pc' := 53) hc_J6_indexOf dJ6_indexOf_52 rfl rfl 1 rfl ?_
      refine v_gfR (pc' := 56) hc_J6_indexOf ho_J6_indexOf KJ6 0 (Nat.le_of_ble_eq_true rfl) q793 (Or.inl rfl) dJ6_indexOf_53 rfl e (fun v20 _ e => ?_)
      refine v_aload_n (pc' := 57) hc_J6_indexOf dJ6_indexOf_56 rfl rfl 2 rfl ?_
      refine v_gfR (pc' := 60) hc_J6_indexOf ho_J6_indexOf KJ6 0 (Nat.le_of_ble_eq_true rfl) q793 (Or.inl rfl) dJ6_indexOf_57 rfl e (fun v21 _ e => ?_)
      exact nomatch e
theorem w_J6_indexOf (D : va_G) (l : Launch) (hl : l.stackTraces = false) (x0 : Nat) (x1 : Nat) (h : AH) {r : Int32} {hF : AH} (e : f_J6_indexOf x0 x1 h = some (r, hF)) : MetV D l yJ6_indexOf (Cond.code yJ6_indexOf cJ6_indexOf 3 (Option.some .int)) 3 99 [.ref x0, .ref x1] h hF (oI r) :=
  met_ofF (by decide +kernel) hl (Nat.le_of_ble_eq_true rfl) rfl (v_J6_indexOf D l hl [.ref x0, .ref x1] h x0 x1 h e)
/-! java/lang/String.contains(Ljava/lang/CharSequence;)Z  -/
abbrev G_J6_contains (D : va_G) (l : Launch) (as : List Value) (h0 hF : AH) (o : Out) : CT := (D, l, (yJ6_contains.cls, yJ6_contains, cJ6_contains, 2, (Option.some .boolean), 4, 121, []), as, h0, hF, o)
theorem hc_J6_contains {D : va_G} {l : Launch} {as : List Value} {h0 hF : AH} {o : Out} : gC (G_J6_contains D l as h0 hF o) = cJ6_contains := rfl
theorem ho_J6_contains {D : va_G} {l : Launch} {as : List Value} {h0 hF : AH} {o : Out} : gO (G_J6_contains D l as h0 hF o) = "java/lang/String" := rfl
theorem hp_J6_contains {D : va_G} {l : Launch} {as : List Value} {h0 hF : AH} {o : Out} (pc : Nat) : ∀ z ∈ tableOf (gHd (G_J6_contains D l as h0 hF o)), covers z pc = false := hpN
def f_J6_contains (x0 : Nat) (x1 : Nat) (h : AH) : Option (Int32 × AH) :=
  gd (isC h 19 x1) <|
  bd2 (f_J6_toString x1 h) fun r2 h3 =>
  gd (isC h3 19 x0) <|
  bd2 (f_J6_indexOf x0 r2 h3) fun r6 h7 =>
  if r6 < 0 then (
    some ((0 : Int32), h7)
  ) else (
    some ((1 : Int32), h7)
  )
theorem v_J6_contains (D : va_G) (l : Launch) (hl : l.stackTraces = false) (as : List Value) (h0 : AH) {r : Int32} {hF : AH} (x0 : Nat) (x1 : Nat) (h : AH) (e : f_J6_contains x0 x1 h = some (r, hF)) : V (G_J6_contains D l as h0 hF (oI r)) h 0 [(0, .ref x0), (1, .ref x1)] [] := by
  unfold f_J6_contains at e
  refine v_aload_n (pc' := 1) hc_J6_contains dJ6_contains_0 rfl rfl 0 rfl ?_
  refine v_aload_n (pc' := 2) hc_J6_contains dJ6_contains_1 rfl rfl 1 rfl ?_
  obtain ⟨c1, e⟩ := gd_of e
  obtain ⟨r2, h3, e4, e⟩ := bd2_of e
  refine k_F (pc' := 7) (x := ⟨"java/lang/CharSequence", "toString", "()Ljava/lang/String;"⟩) (y := ⟨"java/lang/String", "toString", "()Ljava/lang/String;"⟩) (ci := 19) (n := 0) hc_J6_contains ho_J6_contains rfl c1 (w_J6_toString D l hl x1 h e4) (wA_l q2000) (by decide +kernel) q2003 q2005 q83 q2007 hy_304 ⟨Nat.le_of_ble_eq_true rfl, Nat.le_of_ble_eq_true rfl⟩ rfl rfl (Nat.le_of_ble_eq_true rfl) dJ6_contains_2 rfl (kS ?_) kN
  obtain ⟨c5, e⟩ := gd_of e
  obtain ⟨r6, h7, e8, e⟩ := bd2_of e
  refine k_V (pc' := 10) (ci := 19) (n := 1) hc_J6_contains ho_J6_contains rfl c5 (w_J6_indexOf D l hl x0 r2 h3 e8) (wA_l q2011) q2012 (wA_l q2013) q83 q2014 hy_307 ⟨Nat.le_of_ble_eq_true rfl, Nat.le_of_ble_eq_true rfl⟩ rfl rfl (Nat.le_of_ble_eq_true rfl) dJ6_contains_7 rfl (kS ?_) kN
  refine v_if_lt (pt := 17) (pf := 13) hc_J6_contains dJ6_contains_10 rfl rfl e (fun _ e => ?_) (fun _ e => ?_)
  · refine v_iconst (pc' := 18) (v := 0) hc_J6_contains dJ6_contains_17 rfl rfl ?_
    obtain ⟨rfl, rfl⟩ := ret_of e
    exact v_zret hc_J6_contains rfl (ft := .boolean) rfl dJ6_contains_18 rfl rfl
  · refine v_iconst (pc' := 14) (v := 1) hc_J6_contains dJ6_contains_13 rfl rfl ?_
    refine v_goto (pt := 18) hc_J6_contains dJ6_contains_14 rfl ?_
    obtain ⟨rfl, rfl⟩ := ret_of e
    exact v_zret hc_J6_contains rfl (ft := .boolean) rfl dJ6_contains_18 rfl rfl
theorem w_J6_contains (D : va_G) (l : Launch) (hl : l.stackTraces = false) (x0 : Nat) (x1 : Nat) (h : AH) {r : Int32} {hF : AH} (e : f_J6_contains x0 x1 h = some (r, hF)) : MetV D l yJ6_contains (Cond.code yJ6_contains cJ6_contains 2 (Option.some .boolean)) 4 121 [.ref x0, .ref x1] h hF (oI r) :=
  met_ofF (by decide +kernel) hl (Nat.le_of_ble_eq_true rfl) rfl (v_J6_contains D l hl [.ref x0, .ref x1] h x0 x1 h e)
/-! java/lang/Throwable.<init>(Ljava/lang/String;Ljava/lang/Throwable;ZZ)V {'ci': 15, 'nul': (1, 2)} -/
abbrev G_J9_init_3_15_n12 (D : va_G) (l : Launch) (as : List Value) (h0 hF : AH) (o : Out) : CT := (D, l, (yJ9_init_3.cls, yJ9_init_3, cJ9_init_3, 5, (Option.none : Option FieldType), 1, 48, []), as, h0, hF, o)
theorem hc_J9_init_3_15_n12 {D : va_G} {l : Launch} {as : List Value} {h0 hF : AH} {o : Out} : gC (G_J9_init_3_15_n12 D l as h0 hF o) = cJ9_init_3 := rfl
theorem ho_J9_init_3_15_n12 {D : va_G} {l : Launch} {as : List Value} {h0 hF : AH} {o : Out} : gO (G_J9_init_3_15_n12 D l as h0 hF o) = "java/lang/Throwable" := rfl
theorem hp_J9_init_3_15_n12 {D : va_G} {l : Launch} {as : List Value} {h0 hF : AH} {o : Out} (pc : Nat) : ∀ z ∈ tableOf (gHd (G_J9_init_3_15_n12 D l as h0 hF o)), covers z pc = false := hpN
def f_J9_init_3_15_n12_j41 (x0 : Nat) (x3 : Int32) (h : AH) : Option (Unit × AH) :=
  bd (stF h 15 x0 3 .null) fun h1 =>
  bd (stF h1 15 x0 0 .null) fun h2 =>
  if x3 = 0 then (
    bd (stF h2 15 x0 2 .null) fun h3 =>
    some ((), h3)
  ) else (
    some ((), h2)
  )
theorem w_J9_init_3_15_n12_j41 (D : va_G) (l : Launch) (hl : l.stackTraces = false) (as : List Value) (h0 : AH) {r : Unit} {hF : AH} (x0 : Nat) (x3 : Int32) (h : AH) (e : f_J9_init_3_15_n12_j41 x0 x3 h = some (r, hF)) : V (G_J9_init_3_15_n12 D l as h0 hF (oV r)) h 41 [(0, .ref x0), (1, .null), (2, .null), (3, .int x3)] [] := by
  unfold f_J9_init_3_15_n12_j41 at e
  refine v_aload_n (pc' := 42) hc_J9_init_3_15_n12 dJ9_init_3_41 rfl rfl 0 rfl ?_
  refine v_aload_nN (pc' := 43) hc_J9_init_3_15_n12 dJ9_init_3_42 rfl rfl 1 rfl ?_
  refine v_pf (pc' := 46) hc_J9_init_3_15_n12 ho_J9_init_3_15_n12 KX17 3 (Nat.le_of_ble_eq_true rfl) q331 (Or.inl rfl) rfl dJ9_init_3_43 rfl rfl rfl e (fun h1 _ e => ?_)
  refine v_aload_n (pc' := 47) hc_J9_init_3_15_n12 dJ9_init_3_46 rfl rfl 0 rfl ?_
  refine v_aload_nN (pc' := 48) hc_J9_init_3_15_n12 dJ9_init_3_47 rfl rfl 2 rfl ?_
  refine v_pf (pc' := 51) hc_J9_init_3_15_n12 ho_J9_init_3_15_n12 KX17 0 (Nat.le_of_ble_eq_true rfl) q332 (Or.inl rfl) rfl dJ9_init_3_48 rfl rfl rfl e (fun h2 _ e => ?_)
  refine v_iload_n (pc' := 52) hc_J9_init_3_15_n12 dJ9_init_3_51 rfl rfl 3 rfl ?_
  refine v_if_ne (pt := 60) (pf := 55) hc_J9_init_3_15_n12 dJ9_init_3_52 rfl rfl e (fun _ e => ?_) (fun _ e => ?_)
  · refine v_aload_n (pc' := 56) hc_J9_init_3_15_n12 dJ9_init_3_55 rfl rfl 0 rfl ?_
    refine v_null (pc' := 57) hc_J9_init_3_15_n12 dJ9_init_3_56 rfl ?_
    refine v_pf (pc' := 60) hc_J9_init_3_15_n12 ho_J9_init_3_15_n12 KX17 2 (Nat.le_of_ble_eq_true rfl) q334 (Or.inl rfl) rfl dJ9_init_3_57 rfl rfl rfl e (fun h3 _ e => ?_)
    obtain ⟨rfl, rfl⟩ := ret_of e
    exact v_ret hc_J9_init_3_15_n12 rfl dJ9_init_3_60 rfl rfl
  · obtain ⟨rfl, rfl⟩ := ret_of e
    exact v_ret hc_J9_init_3_15_n12 rfl dJ9_init_3_60 rfl rfl
def f_J9_init_3_15_n12 (x0 : Nat) (x3 : Int32) (x4 : Int32) (h : AH) : Option (Unit × AH) :=
  bd (stF h 15 x0 0 (.ref x0)) fun h1 =>
  bd (stF h1 15 x0 1 (va_rf (aE h1 3))) fun h2 =>
  bd (stF h2 15 x0 2 (va_rf (aE h2 4))) fun h3 =>
  if x4 = 0 then (
    bd (stF h3 15 x0 1 .null) fun h4 =>
    f_J9_init_3_15_n12_j41 x0 x3 h4
  ) else (
    none
  )
theorem v_J9_init_3_15_n12 (D : va_G) (l : Launch) (hl : l.stackTraces = false) (as : List Value) (h0 : AH) {r : Unit} {hF : AH} (x0 : Nat) (x3 : Int32) (x4 : Int32) (h : AH) (e : f_J9_init_3_15_n12 x0 x3 x4 h = some (r, hF)) : V (G_J9_init_3_15_n12 D l as h0 hF (oV r)) h 0 [(0, .ref x0), (1, .null), (2, .null), (3, .int x3), (4, .int x4)] [] := by
  unfold f_J9_init_3_15_n12 at e
  refine v_aload_n (pc' := 1) hc_J9_init_3_15_n12 dJ9_init_3_0 rfl rfl 0 rfl ?_
  refine v_oinit (pc' := 4) hc_J9_init_3_15_n12 ho_J9_init_3_15_n12 q297 q127 q128 ⟨Nat.le_of_ble_eq_true rfl, Nat.le_of_ble_eq_true rfl⟩ dJ9_init_3_1 rfl ?_
  refine v_aload_n (pc' := 5) hc_J9_init_3_15_n12 dJ9_init_3_4 rfl rfl 0 rfl ?_
  refine v_aload_n (pc' := 6) hc_J9_init_3_15_n12 dJ9_init_3_5 rfl rfl 0 rfl ?_
  refine v_pf (pc' := 9) hc_J9_init_3_15_n12 ho_J9_init_3_15_n12 KX17 0 (Nat.le_of_ble_eq_true rfl) q332 (Or.inl rfl) rfl dJ9_init_3_6 rfl rfl rfl e (fun h1 _ e => ?_)
  refine v_aload_n (pc' := 10) hc_J9_init_3_15_n12 dJ9_init_3_9 rfl rfl 0 rfl ?_
  refine v_getsR (pc' := 13) (j := 3) hc_J9_init_3_15_n12 ho_J9_init_3_15_n12 (by decide +kernel) q298 dJ9_init_3_10 rfl ?_
  refine v_pf (pc' := 16) hc_J9_init_3_15_n12 ho_J9_init_3_15_n12 KX17 1 (Nat.le_of_ble_eq_true rfl) q333 (Or.inl rfl) rfl dJ9_init_3_13 rfl (nrw_rfa _) (fit_rfa _) e (fun h2 _ e => ?_)
  refine v_aload_n (pc' := 17) hc_J9_init_3_15_n12 dJ9_init_3_16 rfl rfl 0 rfl ?_
  refine v_getsR (pc' := 20) (j := 4) hc_J9_init_3_15_n12 ho_J9_init_3_15_n12 (by decide +kernel) q300 dJ9_init_3_17 rfl ?_
  refine v_pf (pc' := 23) hc_J9_init_3_15_n12 ho_J9_init_3_15_n12 KX17 2 (Nat.le_of_ble_eq_true rfl) q334 (Or.inl rfl) rfl dJ9_init_3_20 rfl (nrw_rf _) (fit_rf _) e (fun h3 _ e => ?_)
  refine v_iload (pc' := 25) hc_J9_init_3_15_n12 dJ9_init_3_23 rfl 4 rfl ?_
  refine v_if_eq (pt := 36) (pf := 28) hc_J9_init_3_15_n12 dJ9_init_3_25 rfl rfl e (fun _ e => ?_) (fun _ e => ?_)
  · refine v_aload_n (pc' := 37) hc_J9_init_3_15_n12 dJ9_init_3_36 rfl rfl 0 rfl ?_
    refine v_null (pc' := 38) hc_J9_init_3_15_n12 dJ9_init_3_37 rfl ?_
    refine v_pf (pc' := 41) hc_J9_init_3_15_n12 ho_J9_init_3_15_n12 KX17 1 (Nat.le_of_ble_eq_true rfl) q333 (Or.inl rfl) rfl dJ9_init_3_38 rfl rfl rfl e (fun h4 _ e => ?_)
    refine v_pick [0, 1, 2, 3] rfl ?_
    exact w_J9_init_3_15_n12_j41 D l hl as h0 x0 x3 h4 e
  · refine v_aload_n (pc' := 29) hc_J9_init_3_15_n12 dJ9_init_3_28 rfl rfl 0 rfl ?_
    exact nomatch e
theorem w_J9_init_3_15_n12 (D : va_G) (l : Launch) (hl : l.stackTraces = false) (x0 : Nat) (x3 : Int32) (x4 : Int32) (h : AH) {r : Unit} {hF : AH} (e : f_J9_init_3_15_n12 x0 x3 x4 h = some (r, hF)) : MetV D l yJ9_init_3 (Cond.code yJ9_init_3 cJ9_init_3 5 (Option.none : Option FieldType)) 1 48 [.ref x0, .null, .null, .int x3, .int x4] h hF (oV r) :=
  met_ofF (by decide +kernel) hl (Nat.le_of_ble_eq_true rfl) rfl (v_J9_init_3_15_n12 D l hl [.ref x0, .null, .null, .int x3, .int x4] h x0 x3 x4 h e)
/-! java/lang/Exception.<init>(Ljava/lang/String;Ljava/lang/Throwable;ZZ)V {'ci': 15, 'nul': (1, 2)} -/
abbrev G_J10_init_3_15_n12 (D : va_G) (l : Launch) (as : List Value) (h0 hF : AH) (o : Out) : CT := (D, l, (yJ10_init_3.cls, yJ10_init_3, cJ10_init_3, 5, (Option.none : Option FieldType), 2, 72, []), as, h0, hF, o)
theorem hc_J10_init_3_15_n12 {D : va_G} {l : Launch} {as : List Value} {h0 hF : AH} {o : Out} : gC (G_J10_init_3_15_n12 D l as h0 hF o) = cJ10_init_3 := rfl
theorem ho_J10_init_3_15_n12 {D : va_G} {l : Launch} {as : List Value} {h0 hF : AH} {o : Out} : gO (G_J10_init_3_15_n12 D l as h0 hF o) = "java/lang/Exception" := rfl
theorem hp_J10_init_3_15_n12 {D : va_G} {l : Launch} {as : List Value} {h0 hF : AH} {o : Out} (pc : Nat) : ∀ z ∈ tableOf (gHd (G_J10_init_3_15_n12 D l as h0 hF o)), covers z pc = false := hpN
def f_J10_init_3_15_n12 (x0 : Nat) (x3 : Int32) (x4 : Int32) (h : AH) : Option (Unit × AH) :=
  bd2 (f_J9_init_3_15_n12 x0 x3 x4 h) fun r1 h2 =>
  some ((), h2)
theorem v_J10_init_3_15_n12 (D : va_G) (l : Launch) (hl : l.stackTraces = false) (as : List Value) (h0 : AH) {r : Unit} {hF : AH} (x0 : Nat) (x3 : Int32) (x4 : Int32) (h : AH) (e : f_J10_init_3_15_n12 x0 x3 x4 h = some (r, hF)) : V (G_J10_init_3_15_n12 D l as h0 hF (oV r)) h 0 [(0, .ref x0), (1, .null), (2, .null), (3, .int x3), (4, .int x4)] [] := by
  unfold f_J10_init_3_15_n12 at e
  refine v_aload_n (pc' := 1) hc_J10_init_3_15_n12 dJ10_init_3_0 rfl rfl 0 rfl ?_
  refine v_aload_nN (pc' := 2) hc_J10_init_3_15_n12 dJ10_init_3_1 rfl rfl 1 rfl ?_
  refine v_aload_nN (pc' := 3) hc_J10_init_3_15_n12 dJ10_init_3_2 rfl rfl 2 rfl ?_
  refine v_iload_n (pc' := 4) hc_J10_init_3_15_n12 dJ10_init_3_3 rfl rfl 3 rfl ?_
  refine v_iload (pc' := 6) hc_J10_init_3_15_n12 dJ10_init_3_4 rfl 4 rfl ?_
  obtain ⟨r1, h2, e3, e⟩ := bd2_of e
  refine k_I (pc' := 9) (n := 4) hc_J10_init_3_15_n12 ho_J10_init_3_15_n12 (w_J9_init_3_15_n12 D l hl x0 x3 x4 h e3) (wA_l q1107) q1108 q88 q1109 rfl hy_41 ⟨Nat.le_of_ble_eq_true rfl, Nat.le_of_ble_eq_true rfl⟩ rfl rfl (Nat.le_of_ble_eq_true rfl) dJ10_init_3_6 rfl (kU ?_) kN
  obtain ⟨rfl, rfl⟩ := ret_of e
  exact v_ret hc_J10_init_3_15_n12 rfl dJ10_init_3_9 rfl rfl
theorem w_J10_init_3_15_n12 (D : va_G) (l : Launch) (hl : l.stackTraces = false) (x0 : Nat) (x3 : Int32) (x4 : Int32) (h : AH) {r : Unit} {hF : AH} (e : f_J10_init_3_15_n12 x0 x3 x4 h = some (r, hF)) : MetV D l yJ10_init_3 (Cond.code yJ10_init_3 cJ10_init_3 5 (Option.none : Option FieldType)) 2 72 [.ref x0, .null, .null, .int x3, .int x4] h hF (oV r) :=
  met_ofF (by decide +kernel) hl (Nat.le_of_ble_eq_true rfl) rfl (v_J10_init_3_15_n12 D l hl [.ref x0, .null, .null, .int x3, .int x4] h x0 x3 x4 h e)
/-! jdk/internal/util/Preconditions.checkFromToIndex(IIILjava/util/function/BiFunction;)I  -/
abbrev G_J16_checkFromToIndex (D : va_G) (l : Launch) (as : List Value) (h0 hF : AH) (o : Out) : CT := (D, l, (yJ16_checkFromToIndex.cls, yJ16_checkFromToIndex, cJ16_checkFromToIndex, 4, (Option.some .int), 1, 48, []), as, h0, hF, o)
theorem hc_J16_checkFromToIndex {D : va_G} {l : Launch} {as : List Value} {h0 hF : AH} {o : Out} : gC (G_J16_checkFromToIndex D l as h0 hF o) = cJ16_checkFromToIndex := rfl
theorem ho_J16_checkFromToIndex {D : va_G} {l : Launch} {as : List Value} {h0 hF : AH} {o : Out} : gO (G_J16_checkFromToIndex D l as h0 hF o) = "jdk/internal/util/Preconditions" := rfl
theorem hp_J16_checkFromToIndex {D : va_G} {l : Launch} {as : List Value} {h0 hF : AH} {o : Out} (pc : Nat) : ∀ z ∈ tableOf (gHd (G_J16_checkFromToIndex D l as h0 hF o)), covers z pc = false := hpN
def f_J16_checkFromToIndex (x0 : Int32) (x1 : Int32) (x2 : Int32) (x3 : Nat) (h : AH) : Option (Int32 × AH) :=
  if x0 < 0 then (
    none
  ) else (
    if x1 < x0 then (
      none
    ) else (
      if x1 ≤ x2 then (
        some (x0, h)
      ) else (
        none
      )
    )
  )
theorem v_J16_checkFromToIndex (D : va_G) (l : Launch) (hl : l.stackTraces = false) (as : List Value) (h0 : AH) {r : Int32} {hF : AH} (x0 : Int32) (x1 : Int32) (x2 : Int32) (x3 : Nat) (h : AH) (e : f_J16_checkFromToIndex x0 x1 x2 x3 h = some (r, hF)) : V (G_J16_checkFromToIndex D l as h0 hF (oI r)) h 0 [(0, .int x0), (1, .int x1), (2, .int x2), (3, .ref x3)] [] := by
  unfold f_J16_checkFromToIndex at e
  refine v_iload_n (pc' := 1) hc_J16_checkFromToIndex dJ16_checkFromToIndex_0 rfl rfl 0 rfl ?_
  refine v_if_lt (pt := 14) (pf := 4) hc_J16_checkFromToIndex dJ16_checkFromToIndex_1 rfl rfl e (fun _ e => ?_) (fun _ e => ?_)
  · refine v_aload_n (pc' := 15) hc_J16_checkFromToIndex dJ16_checkFromToIndex_14 rfl rfl 3 rfl ?_
    refine v_iload_n (pc' := 16) hc_J16_checkFromToIndex dJ16_checkFromToIndex_15 rfl rfl 0 rfl ?_
    refine v_iload_n (pc' := 17) hc_J16_checkFromToIndex dJ16_checkFromToIndex_16 rfl rfl 1 rfl ?_
    refine v_iload_n (pc' := 18) hc_J16_checkFromToIndex dJ16_checkFromToIndex_17 rfl rfl 2 rfl ?_
    exact nomatch e
  · refine v_iload_n (pc' := 5) hc_J16_checkFromToIndex dJ16_checkFromToIndex_4 rfl rfl 0 rfl ?_
    refine v_iload_n (pc' := 6) hc_J16_checkFromToIndex dJ16_checkFromToIndex_5 rfl rfl 1 rfl ?_
    refine v_icmp_gt (pt := 14) (pf := 9) hc_J16_checkFromToIndex dJ16_checkFromToIndex_6 rfl rfl e (fun _ e => ?_) (fun _ e => ?_)
    · refine v_aload_n (pc' := 15) hc_J16_checkFromToIndex dJ16_checkFromToIndex_14 rfl rfl 3 rfl ?_
      refine v_iload_n (pc' := 16) hc_J16_checkFromToIndex dJ16_checkFromToIndex_15 rfl rfl 0 rfl ?_
      refine v_iload_n (pc' := 17) hc_J16_checkFromToIndex dJ16_checkFromToIndex_16 rfl rfl 1 rfl ?_
      refine v_iload_n (pc' := 18) hc_J16_checkFromToIndex dJ16_checkFromToIndex_17 rfl rfl 2 rfl ?_
      exact nomatch e
    · refine v_iload_n (pc' := 10) hc_J16_checkFromToIndex dJ16_checkFromToIndex_9 rfl rfl 1 rfl ?_
      refine v_iload_n (pc' := 11) hc_J16_checkFromToIndex dJ16_checkFromToIndex_10 rfl rfl 2 rfl ?_
      refine v_icmp_le (pt := 22) (pf := 14) hc_J16_checkFromToIndex dJ16_checkFromToIndex_11 rfl rfl e (fun _ e => ?_) (fun _ e => ?_)
      · refine v_iload_n (pc' := 23) hc_J16_checkFromToIndex dJ16_checkFromToIndex_22 rfl rfl 0 rfl ?_
        obtain ⟨rfl, rfl⟩ := ret_of e
        exact v_iret hc_J16_checkFromToIndex rfl dJ16_checkFromToIndex_23 rfl rfl
      · refine v_aload_n (pc' := 15) hc_J16_checkFromToIndex dJ16_checkFromToIndex_14 rfl rfl 3 rfl ?_
        refine v_iload_n (pc' := 16) hc_J16_checkFromToIndex dJ16_checkFromToIndex_15 rfl rfl 0 rfl ?_
        refine v_iload_n (pc' := 17) hc_J16_checkFromToIndex dJ16_checkFromToIndex_16 rfl rfl 1 rfl ?_
        refine v_iload_n (pc' := 18) hc_J16_checkFromToIndex dJ16_checkFromToIndex_17 rfl rfl 2 rfl ?_
        exact nomatch e
theorem w_J16_checkFromToIndex (D : va_G) (l : Launch) (hl : l.stackTraces = false) (x0 : Int32) (x1 : Int32) (x2 : Int32) (x3 : Nat) (h : AH) {r : Int32} {hF : AH} (e : f_J16_checkFromToIndex x0 x1 x2 x3 h = some (r, hF)) : MetV D l yJ16_checkFromToIndex (Cond.code yJ16_checkFromToIndex cJ16_checkFromToIndex 4 (Option.some .int)) 1 48 [.int x0, .int x1, .int x2, .ref x3] h hF (oI r) :=
  met_ofF (by decide +kernel) hl (Nat.le_of_ble_eq_true rfl) rfl (v_J16_checkFromToIndex D l hl [.int x0, .int x1, .int x2, .ref x3] h x0 x1 x2 x3 h e)
/-! java/lang/String.checkBoundsBeginEnd(III)V  -/
abbrev G_J6_checkBoundsBeginEnd (D : va_G) (l : Launch) (as : List Value) (h0 hF : AH) (o : Out) : CT := (D, l, (yJ6_checkBoundsBeginEnd.cls, yJ6_checkBoundsBeginEnd, cJ6_checkBoundsBeginEnd, 3, (Option.none : Option FieldType), 2, 71, []), as, h0, hF, o)
theorem hc_J6_checkBoundsBeginEnd {D : va_G} {l : Launch} {as : List Value} {h0 hF : AH} {o : Out} : gC (G_J6_checkBoundsBeginEnd D l as h0 hF o) = cJ6_checkBoundsBeginEnd := rfl
theorem ho_J6_checkBoundsBeginEnd {D : va_G} {l : Launch} {as : List Value} {h0 hF : AH} {o : Out} : gO (G_J6_checkBoundsBeginEnd D l as h0 hF o) = "java/lang/String" := rfl
theorem hp_J6_checkBoundsBeginEnd {D : va_G} {l : Launch} {as : List Value} {h0 hF : AH} {o : Out} (pc : Nat) : ∀ z ∈ tableOf (gHd (G_J6_checkBoundsBeginEnd D l as h0 hF o)), covers z pc = false := hpN
def f_J6_checkBoundsBeginEnd (x0 : Int32) (x1 : Int32) (x2 : Int32) (h : AH) : Option (Unit × AH) :=
  bd (aE h 7) fun v1 =>
  bd2 (f_J16_checkFromToIndex x0 x1 x2 v1 h) fun r2 h3 =>
  some ((), h3)
theorem v_J6_checkBoundsBeginEnd (D : va_G) (l : Launch) (hl : l.stackTraces = false) (as : List Value) (h0 : AH) {r : Unit} {hF : AH} (x0 : Int32) (x1 : Int32) (x2 : Int32) (h : AH) (e : f_J6_checkBoundsBeginEnd x0 x1 x2 h = some (r, hF)) : V (G_J6_checkBoundsBeginEnd D l as h0 hF (oV r)) h 0 [(0, .int x0), (1, .int x1), (2, .int x2)] [] := by
  unfold f_J6_checkBoundsBeginEnd at e
  refine v_iload_n (pc' := 1) hc_J6_checkBoundsBeginEnd dJ6_checkBoundsBeginEnd_0 rfl rfl 0 rfl ?_
  refine v_iload_n (pc' := 2) hc_J6_checkBoundsBeginEnd dJ6_checkBoundsBeginEnd_1 rfl rfl 1 rfl ?_
  refine v_iload_n (pc' := 3) hc_J6_checkBoundsBeginEnd dJ6_checkBoundsBeginEnd_2 rfl rfl 2 rfl ?_
  refine v_getsN (pc' := 6) (j := 7) hc_J6_checkBoundsBeginEnd ho_J6_checkBoundsBeginEnd (by decide +kernel) q662 dJ6_checkBoundsBeginEnd_3 rfl e (fun v1 _ e => ?_)
  obtain ⟨r2, h3, e4, e⟩ := bd2_of e
  refine k_S (pc' := 9) (n := 4) hc_J6_checkBoundsBeginEnd ho_J6_checkBoundsBeginEnd (w_J16_checkFromToIndex D l hl x0 x1 x2 v1 h e4) (wA_l q664) q665 q97 q666 hy_313 ⟨Nat.le_of_ble_eq_true rfl, Nat.le_of_ble_eq_true rfl⟩ rfl rfl (Nat.le_of_ble_eq_true rfl) dJ6_checkBoundsBeginEnd_6 rfl (kS ?_) kN
  refine v_pop (pc' := 10) hc_J6_checkBoundsBeginEnd dJ6_checkBoundsBeginEnd_9 rfl rfl ?_
  obtain ⟨rfl, rfl⟩ := ret_of e
  exact v_ret hc_J6_checkBoundsBeginEnd rfl dJ6_checkBoundsBeginEnd_10 rfl rfl
theorem w_J6_checkBoundsBeginEnd (D : va_G) (l : Launch) (hl : l.stackTraces = false) (x0 : Int32) (x1 : Int32) (x2 : Int32) (h : AH) {r : Unit} {hF : AH} (e : f_J6_checkBoundsBeginEnd x0 x1 x2 h = some (r, hF)) : MetV D l yJ6_checkBoundsBeginEnd (Cond.code yJ6_checkBoundsBeginEnd cJ6_checkBoundsBeginEnd 3 (Option.none : Option FieldType)) 2 71 [.int x0, .int x1, .int x2] h hF (oV r) :=
  met_ofF (by decide +kernel) hl (Nat.le_of_ble_eq_true rfl) rfl (v_J6_checkBoundsBeginEnd D l hl [.int x0, .int x1, .int x2] h x0 x1 x2 h e)
/-! java/lang/String.<init>([BB)V  -/
abbrev G_J6_init_3 (D : va_G) (l : Launch) (as : List Value) (h0 hF : AH) (o : Out) : CT := (D, l, (yJ6_init_3.cls, yJ6_init_3, cJ6_init_3, 3, (Option.none : Option FieldType), 1, 48, []), as, h0, hF, o)
theorem hc_J6_init_3 {D : va_G} {l : Launch} {as : List Value} {h0 hF : AH} {o : Out} : gC (G_J6_init_3 D l as h0 hF o) = cJ6_init_3 := rfl
theorem ho_J6_init_3 {D : va_G} {l : Launch} {as : List Value} {h0 hF : AH} {o : Out} : gO (G_J6_init_3 D l as h0 hF o) = "java/lang/String" := rfl
theorem hp_J6_init_3 {D : va_G} {l : Launch} {as : List Value} {h0 hF : AH} {o : Out} (pc : Nat) : ∀ z ∈ tableOf (gHd (G_J6_init_3 D l as h0 hF o)), covers z pc = false := hpN
def f_J6_init_3 (x0 : Nat) (x1 : Nat) (x2 : Int32) (h : AH) : Option (Unit × AH) :=
  bd (stF h 19 x0 0 (.ref x1)) fun h1 =>
  gd (nrw .byte x2) <|
  bd (stF h1 19 x0 1 (.int x2)) fun h3 =>
  some ((), h3)
theorem v_J6_init_3 (D : va_G) (l : Launch) (hl : l.stackTraces = false) (as : List Value) (h0 : AH) {r : Unit} {hF : AH} (x0 : Nat) (x1 : Nat) (x2 : Int32) (h : AH) (e : f_J6_init_3 x0 x1 x2 h = some (r, hF)) : V (G_J6_init_3 D l as h0 hF (oV r)) h 0 [(0, .ref x0), (1, .ref x1), (2, .int x2)] [] := by
  unfold f_J6_init_3 at e
  refine v_aload_n (pc' := 1) hc_J6_init_3 dJ6_init_3_0 rfl rfl 0 rfl ?_
  refine v_oinit (pc' := 4) hc_J6_init_3 ho_J6_init_3 q751 q127 q128 ⟨Nat.le_of_ble_eq_true rfl, Nat.le_of_ble_eq_true rfl⟩ dJ6_init_3_1 rfl ?_
  refine v_aload_n (pc' := 5) hc_J6_init_3 dJ6_init_3_4 rfl rfl 0 rfl ?_
  refine v_aload_n (pc' := 6) hc_J6_init_3 dJ6_init_3_5 rfl rfl 1 rfl ?_
  refine v_pfF (pc' := 9) hc_J6_init_3 ho_J6_init_3 rfl KJ6 0 (Nat.le_of_ble_eq_true rfl) q793 rfl rfl rfl dJ6_init_3_6 rfl rfl rfl e (fun h1 _ e => ?_)
  refine v_aload_n (pc' := 10) hc_J6_init_3 dJ6_init_3_9 rfl rfl 0 rfl ?_
  refine v_iload_n (pc' := 11) hc_J6_init_3 dJ6_init_3_10 rfl rfl 2 rfl ?_
  obtain ⟨c2, e⟩ := gd_of e
  refine v_pfF (pc' := 14) hc_J6_init_3 ho_J6_init_3 rfl KJ6 1 (Nat.le_of_ble_eq_true rfl) q794 rfl rfl rfl dJ6_init_3_11 rfl (nrw_of c2) (fit_of c2) e (fun h3 _ e => ?_)
  obtain ⟨rfl, rfl⟩ := ret_of e
  exact v_ret hc_J6_init_3 rfl dJ6_init_3_14 rfl rfl
theorem w_J6_init_3 (D : va_G) (l : Launch) (hl : l.stackTraces = false) (x0 : Nat) (x1 : Nat) (x2 : Int32) (h : AH) {r : Unit} {hF : AH} (e : f_J6_init_3 x0 x1 x2 h = some (r, hF)) : MetV D l yJ6_init_3 (Cond.code yJ6_init_3 cJ6_init_3 3 (Option.none : Option FieldType)) 1 48 [.ref x0, .ref x1, .int x2] h hF (oV r) :=
  met_ofF (by decide +kernel) hl (Nat.le_of_ble_eq_true rfl) rfl (v_J6_init_3 D l hl [.ref x0, .ref x1, .int x2] h x0 x1 x2 h e)
/-! java/lang/StringLatin1.newString([BII)Ljava/lang/String;  -/
abbrev G_J17_newString (D : va_G) (l : Launch) (as : List Value) (h0 hF : AH) (o : Out) : CT := (D, l, (yJ17_newString.cls, yJ17_newString, cJ17_newString, 3, (Option.some (.object "java/lang/String")), 4, 115, []), as, h0, hF, o)
theorem hc_J17_newString {D : va_G} {l : Launch} {as : List Value} {h0 hF : AH} {o : Out} : gC (G_J17_newString D l as h0 hF o) = cJ17_newString := rfl
theorem ho_J17_newString {D : va_G} {l : Launch} {as : List Value} {h0 hF : AH} {o : Out} : gO (G_J17_newString D l as h0 hF o) = "java/lang/StringLatin1" := rfl
theorem hp_J17_newString {D : va_G} {l : Launch} {as : List Value} {h0 hF : AH} {o : Out} (pc : Nat) : ∀ z ∈ tableOf (gHd (G_J17_newString D l as h0 hF o)), covers z pc = false := hpN
def f_J17_newString (x0 : Nat) (x1 : Int32) (x2 : Int32) (h : AH) : Option (Nat × AH) :=
  if x2 = 0 then (
    bd (aE h 100) fun v1 =>
    some (v1, h)
  ) else (
    bd2 (nwX h 19 4 fsJ6) fun a3 h2 =>
    bd2 (f_J8_copyOfRange_2 x0 x1 (x1 + x2) h2) fun r4 h5 =>
    bd2 (f_J6_init_3 a3 r4 (0 : Int32) h5) fun r7 h8 =>
    some (a3, h8)
  )
theorem v_J17_newString (D : va_G) (l : Launch) (hl : l.stackTraces = false) (as : List Value) (h0 : AH) {r : Nat} {hF : AH} (x0 : Nat) (x1 : Int32) (x2 : Int32) (h : AH) (e : f_J17_newString x0 x1 x2 h = some (r, hF)) : V (G_J17_newString D l as h0 hF (oR r)) h 0 [(0, .ref x0), (1, .int x1), (2, .int x2)] [] := by
  unfold f_J17_newString at e
  refine v_iload_n (pc' := 1) hc_J17_newString dJ17_newString_0 rfl rfl 2 rfl ?_
  refine v_if_ne (pt := 7) (pf := 4) hc_J17_newString dJ17_newString_1 rfl rfl e (fun _ e => ?_) (fun _ e => ?_)
  · refine v_ldcS (pc' := 6) (tx := "") (j := 100) hc_J17_newString ho_J17_newString (by decide +kernel) dJ17_newString_4 rfl e (fun v1 _ e => ?_)
    obtain ⟨rfl, rfl⟩ := ret_of e
    exact v_aret hc_J17_newString rfl (Or.inl ⟨_, rfl⟩) (Or.inr ⟨_, rfl⟩) dJ17_newString_6 rfl rfl
  · refine v_newX (pc' := 10) hc_J17_newString ho_J17_newString KJ6 q2078 q744 q83 rfl dfJ6 dJ17_newString_7 rfl e (fun a3 h2 _ e => ?_)
    refine v_dup (pc' := 11) hc_J17_newString dJ17_newString_10 rfl rfl ?_
    refine v_aload_n (pc' := 12) hc_J17_newString dJ17_newString_11 rfl rfl 0 rfl ?_
    refine v_iload_n (pc' := 13) hc_J17_newString dJ17_newString_12 rfl rfl 1 rfl ?_
    refine v_iload_n (pc' := 14) hc_J17_newString dJ17_newString_13 rfl rfl 1 rfl ?_
    refine v_iload_n (pc' := 15) hc_J17_newString dJ17_newString_14 rfl rfl 2 rfl ?_
    refine v_iadd (pc' := 16) hc_J17_newString dJ17_newString_15 rfl ?_
    obtain ⟨r4, h5, e6, e⟩ := bd2_of e
    refine k_S (pc' := 19) (n := 3) hc_J17_newString ho_J17_newString (w_J8_copyOfRange_2 D l hl x0 x1 (x1 + x2) h2 e6) (wA_l q2079) q760 q87 q761 hy_240 ⟨Nat.le_of_ble_eq_true rfl, Nat.le_of_ble_eq_true rfl⟩ rfl rfl (Nat.le_of_ble_eq_true rfl) dJ17_newString_16 rfl (kS ?_) kN
    refine v_iconst (pc' := 20) (v := 0) hc_J17_newString dJ17_newString_19 rfl rfl ?_
    obtain ⟨r7, h8, e9, e⟩ := bd2_of e
    refine k_I (pc' := 23) (n := 2) hc_J17_newString ho_J17_newString (w_J6_init_3 D l hl a3 r4 (0 : Int32) h5 e9) (wA_l q2080) q2081 q83 q2082 rfl hy_315 ⟨Nat.le_of_ble_eq_true rfl, Nat.le_of_ble_eq_true rfl⟩ rfl rfl (Nat.le_of_ble_eq_true rfl) dJ17_newString_20 rfl (kU ?_) kN
    obtain ⟨rfl, rfl⟩ := ret_of e
    exact v_aret hc_J17_newString rfl (Or.inl ⟨_, rfl⟩) (Or.inr ⟨_, rfl⟩) dJ17_newString_23 rfl rfl
theorem w_J17_newString (D : va_G) (l : Launch) (hl : l.stackTraces = false) (x0 : Nat) (x1 : Int32) (x2 : Int32) (h : AH) {r : Nat} {hF : AH} (e : f_J17_newString x0 x1 x2 h = some (r, hF)) : MetV D l yJ17_newString (Cond.code yJ17_newString cJ17_newString 3 (Option.some (.object "java/lang/String"))) 4 115 [.ref x0, .int x1, .int x2] h hF (oR r) :=
  met_ofF (by decide +kernel) hl (Nat.le_of_ble_eq_true rfl) rfl (v_J17_newString D l hl [.ref x0, .int x1, .int x2] h x0 x1 x2 h e)
/-! java/lang/String.substring(II)Ljava/lang/String;  -/
abbrev G_J6_substring_2 (D : va_G) (l : Launch) (as : List Value) (h0 hF : AH) (o : Out) : CT := (D, l, (yJ6_substring_2.cls, yJ6_substring_2, cJ6_substring_2, 5, (Option.some (.object "java/lang/String")), 5, 137, []), as, h0, hF, o)
theorem hc_J6_substring_2 {D : va_G} {l : Launch} {as : List Value} {h0 hF : AH} {o : Out} : gC (G_J6_substring_2 D l as h0 hF o) = cJ6_substring_2 := rfl
theorem ho_J6_substring_2 {D : va_G} {l : Launch} {as : List Value} {h0 hF : AH} {o : Out} : gO (G_J6_substring_2 D l as h0 hF o) = "java/lang/String" := rfl
theorem hp_J6_substring_2 {D : va_G} {l : Launch} {as : List Value} {h0 hF : AH} {o : Out} (pc : Nat) : ∀ z ∈ tableOf (gHd (G_J6_substring_2 D l as h0 hF o)), covers z pc = false := hpN
def f_J6_substring_2_j22 (x0 : Nat) (x1 : Int32) (x2 : Int32) (h : AH) : Option (Nat × AH) :=
  gd (isC h 19 x0) <|
  bd2 (f_J6_isLatin1 x0 h) fun r2 h3 =>
  if r2 = 0 then (
    bd (gtR h3 19 x0 0) fun v5 =>
    none
  ) else (
    bd (gtR h3 19 x0 0) fun v6 =>
    bd2 (f_J17_newString v6 x1 (x2 - x1) h3) fun r7 h8 =>
    some (r7, h8)
  )
theorem w_J6_substring_2_j22 (D : va_G) (l : Launch) (hl : l.stackTraces = false) (as : List Value) (h0 : AH) {r : Nat} {hF : AH} (x0 : Nat) (x1 : Int32) (x2 : Int32) (h : AH) (e : f_J6_substring_2_j22 x0 x1 x2 h = some (r, hF)) : V (G_J6_substring_2 D l as h0 hF (oR r)) h 22 [(0, .ref x0), (1, .int x1), (2, .int x2)] [] := by
  unfold f_J6_substring_2_j22 at e
  refine v_iload_n (pc' := 23) hc_J6_substring_2 dJ6_substring_2_22 rfl rfl 2 rfl ?_
  refine v_iload_n (pc' := 24) hc_J6_substring_2 dJ6_substring_2_23 rfl rfl 1 rfl ?_
  refine v_isub (pc' := 25) hc_J6_substring_2 dJ6_substring_2_24 rfl ?_
  refine v_istore (pc' := 27) (lv' := [(4, .int (x2 - x1)), (0, .ref x0), (1, .int x1), (2, .int x2)]) hc_J6_substring_2 dJ6_substring_2_25 rfl (Nat.le_of_ble_eq_true rfl) rfl ?_
  refine v_aload_n (pc' := 28) hc_J6_substring_2 dJ6_substring_2_27 rfl rfl 1 rfl ?_
  obtain ⟨c1, e⟩ := gd_of e
  obtain ⟨r2, h3, e4, e⟩ := bd2_of e
  refine k_V (pc' := 31) (ci := 19) (n := 0) hc_J6_substring_2 ho_J6_substring_2 rfl c1 (w_J6_isLatin1 D l hl x0 h e4) (wA_l q1010) q1011 (wA_l q1012) q83 q1013 hy_31 ⟨Nat.le_of_ble_eq_true rfl, Nat.le_of_ble_eq_true rfl⟩ rfl rfl (Nat.le_of_ble_eq_true rfl) dJ6_substring_2_28 rfl (kS ?_) kN
  refine v_if_eq (pt := 47) (pf := 34) hc_J6_substring_2 dJ6_substring_2_31 rfl rfl e (fun _ e => ?_) (fun _ e => ?_)
  · refine v_aload_n (pc' := 48) hc_J6_substring_2 dJ6_substring_2_47 rfl rfl 1 rfl ?_
    refine v_gfR (pc' := 51) hc_J6_substring_2 ho_J6_substring_2 KJ6 0 (Nat.le_of_ble_eq_true rfl) q793 (Or.inl rfl) dJ6_substring_2_48 rfl e (fun v5 _ e => ?_)
    refine v_iload_n (pc' := 52) hc_J6_substring_2 dJ6_substring_2_51 rfl rfl 2 rfl ?_
    refine v_iload (pc' := 54) hc_J6_substring_2 dJ6_substring_2_52 rfl 0 rfl ?_
    exact nomatch e
  · refine v_aload_n (pc' := 35) hc_J6_substring_2 dJ6_substring_2_34 rfl rfl 1 rfl ?_
    refine v_gfR (pc' := 38) hc_J6_substring_2 ho_J6_substring_2 KJ6 0 (Nat.le_of_ble_eq_true rfl) q793 (Or.inl rfl) dJ6_substring_2_35 rfl e (fun v6 _ e => ?_)
    refine v_iload_n (pc' := 39) hc_J6_substring_2 dJ6_substring_2_38 rfl rfl 2 rfl ?_
    refine v_iload (pc' := 41) hc_J6_substring_2 dJ6_substring_2_39 rfl 0 rfl ?_
    obtain ⟨r7, h8, e9, e⟩ := bd2_of e
    refine k_S (pc' := 44) (n := 3) hc_J6_substring_2 ho_J6_substring_2 (w_J17_newString D l hl v6 x1 (x2 - x1) h3 e9) (wA_l q2074) q2075 q98 q2076 hy_316 ⟨Nat.le_of_ble_eq_true rfl, Nat.le_of_ble_eq_true rfl⟩ rfl rfl (Nat.le_of_ble_eq_true rfl) dJ6_substring_2_41 rfl (kS ?_) kN
    refine v_goto (pt := 57) hc_J6_substring_2 dJ6_substring_2_44 rfl ?_
    obtain ⟨rfl, rfl⟩ := ret_of e
    exact v_aret hc_J6_substring_2 rfl (Or.inl ⟨_, rfl⟩) (Or.inr ⟨_, rfl⟩) dJ6_substring_2_57 rfl rfl
def f_J6_substring_2 (x0 : Nat) (x1 : Int32) (x2 : Int32) (h : AH) : Option (Nat × AH) :=
  gd (isC h 19 x0) <|
  bd2 (f_J6_length x0 h) fun r2 h3 =>
  bd2 (f_J6_checkBoundsBeginEnd x1 x2 r2 h3) fun r5 h6 =>
  if x1 = 0 then (
    if x2 = r2 then (
      some (x0, h6)
    ) else (
      f_J6_substring_2_j22 x0 x1 x2 h6
    )
  ) else (
    f_J6_substring_2_j22 x0 x1 x2 h6
  )
theorem v_J6_substring_2 (D : va_G) (l : Launch) (hl : l.stackTraces = false) (as : List Value) (h0 : AH) {r : Nat} {hF : AH} (x0 : Nat) (x1 : Int32) (x2 : Int32) (h : AH) (e : f_J6_substring_2 x0 x1 x2 h = some (r, hF)) : V (G_J6_substring_2 D l as h0 hF (oR r)) h 0 [(0, .ref x0), (1, .int x1), (2, .int x2)] [] := by
  unfold f_J6_substring_2 at e
  refine v_aload_n (pc' := 1) hc_J6_substring_2 dJ6_substring_2_0 rfl rfl 0 rfl ?_
  obtain ⟨c1, e⟩ := gd_of e
  obtain ⟨r2, h3, e4, e⟩ := bd2_of e
  refine k_V (pc' := 4) (ci := 19) (n := 0) hc_J6_substring_2 ho_J6_substring_2 rfl c1 (w_J6_length D l hl x0 h e4) (wA_l q2068) q697 (wA_l q698) q83 q699 hy_232 ⟨Nat.le_of_ble_eq_true rfl, Nat.le_of_ble_eq_true rfl⟩ rfl rfl (Nat.le_of_ble_eq_true rfl) dJ6_substring_2_1 rfl (kS ?_) kN
  refine v_istore_n (pc' := 5) (lv' := [(3, .int r2), (0, .ref x0), (1, .int x1), (2, .int x2)]) hc_J6_substring_2 dJ6_substring_2_4 rfl rfl (Nat.le_of_ble_eq_true rfl) rfl ?_
  refine v_iload_n (pc' := 6) hc_J6_substring_2 dJ6_substring_2_5 rfl rfl 2 rfl ?_
  refine v_iload_n (pc' := 7) hc_J6_substring_2 dJ6_substring_2_6 rfl rfl 3 rfl ?_
  refine v_iload_n (pc' := 8) hc_J6_substring_2 dJ6_substring_2_7 rfl rfl 0 rfl ?_
  obtain ⟨r5, h6, e7, e⟩ := bd2_of e
  refine k_S (pc' := 11) (n := 3) hc_J6_substring_2 ho_J6_substring_2 (w_J6_checkBoundsBeginEnd D l hl x1 x2 r2 h3 e7) (wA_l q2073) q660 q83 q661 hy_314 ⟨Nat.le_of_ble_eq_true rfl, Nat.le_of_ble_eq_true rfl⟩ rfl rfl (Nat.le_of_ble_eq_true rfl) dJ6_substring_2_8 rfl (kU ?_) kN
  refine v_iload_n (pc' := 12) hc_J6_substring_2 dJ6_substring_2_11 rfl rfl 2 rfl ?_
  refine v_if_ne (pt := 22) (pf := 15) hc_J6_substring_2 dJ6_substring_2_12 rfl rfl e (fun _ e => ?_) (fun _ e => ?_)
  · refine v_iload_n (pc' := 16) hc_J6_substring_2 dJ6_substring_2_15 rfl rfl 3 rfl ?_
    refine v_iload_n (pc' := 17) hc_J6_substring_2 dJ6_substring_2_16 rfl rfl 0 rfl ?_
    refine v_icmp_ne (pt := 22) (pf := 20) hc_J6_substring_2 dJ6_substring_2_17 rfl rfl e (fun _ e => ?_) (fun _ e => ?_)
    · refine v_aload_n (pc' := 21) hc_J6_substring_2 dJ6_substring_2_20 rfl rfl 1 rfl ?_
      obtain ⟨rfl, rfl⟩ := ret_of e
      exact v_aret hc_J6_substring_2 rfl (Or.inl ⟨_, rfl⟩) (Or.inr ⟨_, rfl⟩) dJ6_substring_2_21 rfl rfl
    · refine v_pick [1, 2, 3] rfl ?_
      exact w_J6_substring_2_j22 D l hl as h0 x0 x1 x2 h6 e
  · refine v_pick [1, 2, 3] rfl ?_
    exact w_J6_substring_2_j22 D l hl as h0 x0 x1 x2 h6 e
theorem w_J6_substring_2 (D : va_G) (l : Launch) (hl : l.stackTraces = false) (x0 : Nat) (x1 : Int32) (x2 : Int32) (h : AH) {r : Nat} {hF : AH} (e : f_J6_substring_2 x0 x1 x2 h = some (r, hF)) : MetV D l yJ6_substring_2 (Cond.code yJ6_substring_2 cJ6_substring_2 5 (Option.some (.object "java/lang/String"))) 5 137 [.ref x0, .int x1, .int x2] h hF (oR r) :=
  met_ofF (by decide +kernel) hl (Nat.le_of_ble_eq_true rfl) rfl (v_J6_substring_2 D l hl [.ref x0, .int x1, .int x2] h x0 x1 x2 h e)
/-! java/lang/String.substring(I)Ljava/lang/String;  -/
abbrev G_J6_substring (D : va_G) (l : Launch) (as : List Value) (h0 hF : AH) (o : Out) : CT := (D, l, (yJ6_substring.cls, yJ6_substring, cJ6_substring, 2, (Option.some (.object "java/lang/String")), 6, 161, []), as, h0, hF, o)
theorem hc_J6_substring {D : va_G} {l : Launch} {as : List Value} {h0 hF : AH} {o : Out} : gC (G_J6_substring D l as h0 hF o) = cJ6_substring := rfl
theorem ho_J6_substring {D : va_G} {l : Launch} {as : List Value} {h0 hF : AH} {o : Out} : gO (G_J6_substring D l as h0 hF o) = "java/lang/String" := rfl
theorem hp_J6_substring {D : va_G} {l : Launch} {as : List Value} {h0 hF : AH} {o : Out} (pc : Nat) : ∀ z ∈ tableOf (gHd (G_J6_substring D l as h0 hF o)), covers z pc = false := hpN
def f_J6_substring (x0 : Nat) (x1 : Int32) (h : AH) : Option (Nat × AH) :=
  gd (isC h 19 x0) <|
  bd2 (f_J6_length x0 h) fun r2 h3 =>
  gd (isC h3 19 x0) <|
  bd2 (f_J6_substring_2 x0 x1 r2 h3) fun r6 h7 =>
  some (r6, h7)
theorem v_J6_substring (D : va_G) (l : Launch) (hl : l.stackTraces = false) (as : List Value) (h0 : AH) {r : Nat} {hF : AH} (x0 : Nat) (x1 : Int32) (h : AH) (e : f_J6_substring x0 x1 h = some (r, hF)) : V (G_J6_substring D l as h0 hF (oR r)) h 0 [(0, .ref x0), (1, .int x1)] [] := by
  unfold f_J6_substring at e
  refine v_aload_n (pc' := 1) hc_J6_substring dJ6_substring_0 rfl rfl 0 rfl ?_
  refine v_iload_n (pc' := 2) hc_J6_substring dJ6_substring_1 rfl rfl 1 rfl ?_
  refine v_aload_n (pc' := 3) hc_J6_substring dJ6_substring_2 rfl rfl 0 rfl ?_
  obtain ⟨c1, e⟩ := gd_of e
  obtain ⟨r2, h3, e4, e⟩ := bd2_of e
  refine k_V (pc' := 6) (ci := 19) (n := 0) hc_J6_substring ho_J6_substring rfl c1 (w_J6_length D l hl x0 h e4) (wA_l q2068) q697 (wA_l q698) q83 q699 hy_232 ⟨Nat.le_of_ble_eq_true rfl, Nat.le_of_ble_eq_true rfl⟩ rfl rfl (Nat.le_of_ble_eq_true rfl) dJ6_substring_3 rfl (kS ?_) kN
  obtain ⟨c5, e⟩ := gd_of e
  obtain ⟨r6, h7, e8, e⟩ := bd2_of e
  refine k_V (pc' := 9) (ci := 19) (n := 2) hc_J6_substring ho_J6_substring rfl c5 (w_J6_substring_2 D l hl x0 x1 r2 h3 e8) (wA_l q2069) q2070 (wA_l q2071) q83 q2072 hy_317 ⟨Nat.le_of_ble_eq_true rfl, Nat.le_of_ble_eq_true rfl⟩ rfl rfl (Nat.le_of_ble_eq_true rfl) dJ6_substring_6 rfl (kS ?_) kN
  obtain ⟨rfl, rfl⟩ := ret_of e
  exact v_aret hc_J6_substring rfl (Or.inl ⟨_, rfl⟩) (Or.inr ⟨_, rfl⟩) dJ6_substring_9 rfl rfl
theorem w_J6_substring (D : va_G) (l : Launch) (hl : l.stackTraces = false) (x0 : Nat) (x1 : Int32) (h : AH) {r : Nat} {hF : AH} (e : f_J6_substring x0 x1 h = some (r, hF)) : MetV D l yJ6_substring (Cond.code yJ6_substring cJ6_substring 2 (Option.some (.object "java/lang/String"))) 6 161 [.ref x0, .int x1] h hF (oR r) :=
  met_ofF (by decide +kernel) hl (Nat.le_of_ble_eq_true rfl) rfl (v_J6_substring D l hl [.ref x0, .int x1] h x0 x1 h e)
/-! java/lang/AbstractStringBuilder.setLength(I)V  -/
abbrev G_J4_setLength (D : va_G) (l : Launch) (as : List Value) (h0 hF : AH) (o : Out) : CT := (D, l, (yJ4_setLength.cls, yJ4_setLength, cJ4_setLength, 2, (Option.none : Option FieldType), 5, 139, []), as, h0, hF, o)
theorem hc_J4_setLength {D : va_G} {l : Launch} {as : List Value} {h0 hF : AH} {o : Out} : gC (G_J4_setLength D l as h0 hF o) = cJ4_setLength := rfl
theorem ho_J4_setLength {D : va_G} {l : Launch} {as : List Value} {h0 hF : AH} {o : Out} : gO (G_J4_setLength D l as h0 hF o) = "java/lang/AbstractStringBuilder" := rfl
theorem hp_J4_setLength {D : va_G} {l : Launch} {as : List Value} {h0 hF : AH} {o : Out} (pc : Nat) : ∀ z ∈ tableOf (gHd (G_J4_setLength D l as h0 hF o)), covers z pc = false := hpN
def f_J4_setLength (x0 : Nat) (x1 : Int32) (h : AH) : Option (Unit × AH) :=
  if 0 ≤ x1 then (
    gd (isC h 18 x0) <|
    bd2 (f_J4_ensureCapacityInternal x0 x1 h) fun r2 h3 =>
    bd (gtI h3 18 x0 3) fun v5 =>
    if x1 ≤ v5 then (
      bd (gtI h3 18 x0 3) fun v6 =>
      if v6 ≤ x1 then (
        bd (stF h3 18 x0 3 (.int x1)) fun h7 =>
        some ((), h7)
      ) else (
        bd (stF h3 18 x0 2 (.int (1 : Int32))) fun h8 =>
        bd (stF h8 18 x0 3 (.int x1)) fun h9 =>
        some ((), h9)
      )
    ) else (
      gd (isC h3 18 x0) <|
      bd2 (f_J4_isLatin1 x0 h3) fun r11 h12 =>
      if r11 = 0 then (
        bd (gtR h12 18 x0 0) fun v14 =>
        bd (gtI h12 18 x0 3) fun v15 =>
        none
      ) else (
        bd (gtR h12 18 x0 0) fun v16 =>
        bd (gtI h12 18 x0 3) fun v17 =>
        none
      )
    )
  ) else (
    none
  )
theorem v_J4_setLength (D : va_G) (l : Launch) (hl : l.stackTraces = false) (as : List Value) (h0 : AH) {r : Unit} {hF : AH} (x0 : Nat) (x1 : Int32) (h : AH) (e : f_J4_setLength x0 x1 h = some (r, hF)) : V (G_J4_setLength D l as h0 hF (oV r)) h 0 [(0, .ref x0), (1, .int x1)] [] := by
  unfold f_J4_setLength at e
  refine v_iload_n (pc' := 1) hc_J4_setLength dJ4_setLength_0 rfl rfl 1 rfl ?_
  refine v_if_ge (pt := 13) (pf := 4) hc_J4_setLength dJ4_setLength_1 rfl rfl e (fun _ e => ?_) (fun _ e => ?_)
  · refine v_aload_n (pc' := 14) hc_J4_setLength dJ4_setLength_13 rfl rfl 0 rfl ?_
    refine v_iload_n (pc' := 15) hc_J4_setLength dJ4_setLength_14 rfl rfl 1 rfl ?_
    obtain ⟨c1, e⟩ := gd_of e
    obtain ⟨r2, h3, e4, e⟩ := bd2_of e
    refine k_V (pc' := 18) (ci := 18) (n := 1) hc_J4_setLength ho_J4_setLength rfl c1 (w_J4_ensureCapacityInternal D l hl x0 x1 h e4) (wA_l q603) q605 qxp0 q81 q606 hy_226 ⟨Nat.le_of_ble_eq_true rfl, Nat.le_of_ble_eq_true rfl⟩ rfl rfl (Nat.le_of_ble_eq_true rfl) dJ4_setLength_15 rfl (kU ?_) kN
    refine v_aload_n (pc' := 19) hc_J4_setLength dJ4_setLength_18 rfl rfl 0 rfl ?_
    refine v_gfI (pc' := 22) hc_J4_setLength ho_J4_setLength KJ5 3 (Nat.le_of_ble_eq_true rfl) q223 (Or.inl rfl) dJ4_setLength_19 rfl e (fun v5 _ e => ?_)
    refine v_iload_n (pc' := 23) hc_J4_setLength dJ4_setLength_22 rfl rfl 1 rfl ?_
    refine v_icmp_ge (pt := 63) (pf := 26) hc_J4_setLength dJ4_setLength_23 rfl rfl e (fun _ e => ?_) (fun _ e => ?_)
    · refine v_aload_n (pc' := 64) hc_J4_setLength dJ4_setLength_63 rfl rfl 0 rfl ?_
      refine v_gfI (pc' := 67) hc_J4_setLength ho_J4_setLength KJ5 3 (Nat.le_of_ble_eq_true rfl) q223 (Or.inl rfl) dJ4_setLength_64 rfl e (fun v6 _ e => ?_)
      refine v_iload_n (pc' := 68) hc_J4_setLength dJ4_setLength_67 rfl rfl 1 rfl ?_
      refine v_icmp_le (pt := 76) (pf := 71) hc_J4_setLength dJ4_setLength_68 rfl rfl e (fun _ e => ?_) (fun _ e => ?_)
      · refine v_aload_n (pc' := 77) hc_J4_setLength dJ4_setLength_76 rfl rfl 0 rfl ?_
        refine v_iload_n (pc' := 78) hc_J4_setLength dJ4_setLength_77 rfl rfl 1 rfl ?_
        refine v_pf (pc' := 81) hc_J4_setLength ho_J4_setLength KJ5 3 (Nat.le_of_ble_eq_true rfl) q223 (Or.inl rfl) rfl dJ4_setLength_78 rfl rfl rfl e (fun h7 _ e => ?_)
        obtain ⟨rfl, rfl⟩ := ret_of e
        exact v_ret hc_J4_setLength rfl dJ4_setLength_81 rfl rfl
      · refine v_aload_n (pc' := 72) hc_J4_setLength dJ4_setLength_71 rfl rfl 0 rfl ?_
        refine v_iconst (pc' := 73) (v := 1) hc_J4_setLength dJ4_setLength_72 rfl rfl ?_
        refine v_pf (pc' := 76) hc_J4_setLength ho_J4_setLength KJ5 2 (Nat.le_of_ble_eq_true rfl) q221 (Or.inl rfl) rfl dJ4_setLength_73 rfl rfl rfl e (fun h8 _ e => ?_)
        refine v_aload_n (pc' := 77) hc_J4_setLength dJ4_setLength_76 rfl rfl 0 rfl ?_
        refine v_iload_n (pc' := 78) hc_J4_setLength dJ4_setLength_77 rfl rfl 1 rfl ?_
        refine v_pf (pc' := 81) hc_J4_setLength ho_J4_setLength KJ5 3 (Nat.le_of_ble_eq_true rfl) q223 (Or.inl rfl) rfl dJ4_setLength_78 rfl rfl rfl e (fun h9 _ e => ?_)
        obtain ⟨rfl, rfl⟩ := ret_of e
        exact v_ret hc_J4_setLength rfl dJ4_setLength_81 rfl rfl
    · refine v_aload_n (pc' := 27) hc_J4_setLength dJ4_setLength_26 rfl rfl 0 rfl ?_
      obtain ⟨c10, e⟩ := gd_of e
      obtain ⟨r11, h12, e13, e⟩ := bd2_of e
      refine k_V (pc' := 30) (ci := 18) (n := 0) hc_J4_setLength ho_J4_setLength rfl c10 (w_J4_isLatin1 D l hl x0 h3 e13) (wA_l q638) q639 (wA_l q641) q81 q642 hy_227 ⟨Nat.le_of_ble_eq_true rfl, Nat.le_of_ble_eq_true rfl⟩ rfl rfl (Nat.le_of_ble_eq_true rfl) dJ4_setLength_27 rfl (kS ?_) kN
      refine v_if_eq (pt := 48) (pf := 33) hc_J4_setLength dJ4_setLength_30 rfl rfl e (fun _ e => ?_) (fun _ e => ?_)
      · refine v_aload_n (pc' := 49) hc_J4_setLength dJ4_setLength_48 rfl rfl 0 rfl ?_
        refine v_gfR (pc' := 52) hc_J4_setLength ho_J4_setLength KJ5 0 (Nat.le_of_ble_eq_true rfl) q219 (Or.inl rfl) dJ4_setLength_49 rfl e (fun v14 _ e => ?_)
        refine v_aload_n (pc' := 53) hc_J4_setLength dJ4_setLength_52 rfl rfl 0 rfl ?_
        refine v_gfI (pc' := 56) hc_J4_setLength ho_J4_setLength KJ5 3 (Nat.le_of_ble_eq_true rfl) q223 (Or.inl rfl) dJ4_setLength_53 rfl e (fun v15 _ e => ?_)
        refine v_iload_n (pc' := 57) hc_J4_setLength dJ4_setLength_56 rfl rfl 1 rfl ?_
        exact nomatch e
      · refine v_aload_n (pc' := 34) hc_J4_setLength dJ4_setLength_33 rfl rfl 0 rfl ?_
        refine v_gfR (pc' := 37) hc_J4_setLength ho_J4_setLength KJ5 0 (Nat.le_of_ble_eq_true rfl) q219 (Or.inl rfl) dJ4_setLength_34 rfl e (fun v16 _ e => ?_)
        refine v_aload_n (pc' := 38) hc_J4_setLength dJ4_setLength_37 rfl rfl 0 rfl ?_
        refine v_gfI (pc' := 41) hc_J4_setLength ho_J4_setLength KJ5 3 (Nat.le_of_ble_eq_true rfl) q223 (Or.inl rfl) dJ4_setLength_38 rfl e (fun v17 _ e => ?_)
        refine v_iload_n (pc' := 42) hc_J4_setLength dJ4_setLength_41 rfl rfl 1 rfl ?_
        exact nomatch e
  · exact nomatch e
theorem w_J4_setLength (D : va_G) (l : Launch) (hl : l.stackTraces = false) (x0 : Nat) (x1 : Int32) (h : AH) {r : Unit} {hF : AH} (e : f_J4_setLength x0 x1 h = some (r, hF)) : MetV D l yJ4_setLength (Cond.code yJ4_setLength cJ4_setLength 2 (Option.none : Option FieldType)) 5 139 [.ref x0, .int x1] h hF (oV r) :=
  met_ofF (by decide +kernel) hl (Nat.le_of_ble_eq_true rfl) rfl (v_J4_setLength D l hl [.ref x0, .int x1] h x0 x1 h e)
/-! java/lang/StringBuilder.setLength(I)V  -/
abbrev G_J5_setLength (D : va_G) (l : Launch) (as : List Value) (h0 hF : AH) (o : Out) : CT := (D, l, (yJ5_setLength.cls, yJ5_setLength, cJ5_setLength, 2, (Option.none : Option FieldType), 6, 160, []), as, h0, hF, o)
theorem hc_J5_setLength {D : va_G} {l : Launch} {as : List Value} {h0 hF : AH} {o : Out} : gC (G_J5_setLength D l as h0 hF o) = cJ5_setLength := rfl
theorem ho_J5_setLength {D : va_G} {l : Launch} {as : List Value} {h0 hF : AH} {o : Out} : gO (G_J5_setLength D l as h0 hF o) = "java/lang/StringBuilder" := rfl
theorem hp_J5_setLength {D : va_G} {l : Launch} {as : List Value} {h0 hF : AH} {o : Out} (pc : Nat) : ∀ z ∈ tableOf (gHd (G_J5_setLength D l as h0 hF o)), covers z pc = false := hpN
def f_J5_setLength (x0 : Nat) (x1 : Int32) (h : AH) : Option (Unit × AH) :=
  gd (isC h 18 x0) <|
  bd2 (f_J4_setLength x0 x1 h) fun r2 h3 =>
  some ((), h3)
theorem v_J5_setLength (D : va_G) (l : Launch) (hl : l.stackTraces = false) (as : List Value) (h0 : AH) {r : Unit} {hF : AH} (x0 : Nat) (x1 : Int32) (h : AH) (e : f_J5_setLength x0 x1 h = some (r, hF)) : V (G_J5_setLength D l as h0 hF (oV r)) h 0 [(0, .ref x0), (1, .int x1)] [] := by
  unfold f_J5_setLength at e
  refine v_aload_n (pc' := 1) hc_J5_setLength dJ5_setLength_0 rfl rfl 0 rfl ?_
  refine v_iload_n (pc' := 2) hc_J5_setLength dJ5_setLength_1 rfl rfl 1 rfl ?_
  obtain ⟨c1, e⟩ := gd_of e
  obtain ⟨r2, h3, e4, e⟩ := bd2_of e
  refine k_SU (pc' := 5) (x := ⟨"java/lang/AbstractStringBuilder", "setLength", "(I)V"⟩) (ci := 18) (n := 1) hc_J5_setLength ho_J5_setLength rfl c1 (w_J4_setLength D l hl x0 x1 h e4) (by decide +kernel) (wA_l q2112) (wA_l q2696) q232 q2113 q81 q2114 hy_323 ⟨Nat.le_of_ble_eq_true rfl, Nat.le_of_ble_eq_true rfl⟩ rfl rfl (Nat.le_of_ble_eq_true rfl) dJ5_setLength_2 rfl (kU ?_) kN
  obtain ⟨rfl, rfl⟩ := ret_of e
  exact v_ret hc_J5_setLength rfl dJ5_setLength_5 rfl rfl
theorem w_J5_setLength (D : va_G) (l : Launch) (hl : l.stackTraces = false) (x0 : Nat) (x1 : Int32) (h : AH) {r : Unit} {hF : AH} (e : f_J5_setLength x0 x1 h = some (r, hF)) : MetV D l yJ5_setLength (Cond.code yJ5_setLength cJ5_setLength 2 (Option.none : Option FieldType)) 6 160 [.ref x0, .int x1] h hF (oV r) :=
  met_ofF (by decide +kernel) hl (Nat.le_of_ble_eq_true rfl) rfl (v_J5_setLength D l hl [.ref x0, .int x1] h x0 x1 h e)
/-! java/util/ArrayDeque.isEmpty()Z  -/
abbrev G_J3_isEmpty (D : va_G) (l : Launch) (as : List Value) (h0 hF : AH) (o : Out) : CT := (D, l, (yJ3_isEmpty.cls, yJ3_isEmpty, cJ3_isEmpty, 1, (Option.some .boolean), 1, 48, []), as, h0, hF, o)
theorem hc_J3_isEmpty {D : va_G} {l : Launch} {as : List Value} {h0 hF : AH} {o : Out} : gC (G_J3_isEmpty D l as h0 hF o) = cJ3_isEmpty := rfl
theorem ho_J3_isEmpty {D : va_G} {l : Launch} {as : List Value} {h0 hF : AH} {o : Out} : gO (G_J3_isEmpty D l as h0 hF o) = "java/util/ArrayDeque" := rfl
theorem hp_J3_isEmpty {D : va_G} {l : Launch} {as : List Value} {h0 hF : AH} {o : Out} (pc : Nat) : ∀ z ∈ tableOf (gHd (G_J3_isEmpty D l as h0 hF o)), covers z pc = false := hpN
def f_J3_isEmpty (x0 : Nat) (h : AH) : Option (Int32 × AH) :=
  bd (gtI h 17 x0 1) fun v1 =>
  bd (gtI h 17 x0 2) fun v2 =>
  if v1 = v2 then (
    some ((1 : Int32), h)
  ) else (
    some ((0 : Int32), h)
  )
theorem v_J3_isEmpty (D : va_G) (l : Launch) (hl : l.stackTraces = false) (as : List Value) (h0 : AH) {r : Int32} {hF : AH} (x0 : Nat) (h : AH) (e : f_J3_isEmpty x0 h = some (r, hF)) : V (G_J3_isEmpty D l as h0 hF (oI r)) h 0 [(0, .ref x0)] [] := by
  unfold f_J3_isEmpty at e
  refine v_aload_n (pc' := 1) hc_J3_isEmpty dJ3_isEmpty_0 rfl rfl 0 rfl ?_
  refine v_gfI (pc' := 4) hc_J3_isEmpty ho_J3_isEmpty KJ3 1 (Nat.le_of_ble_eq_true rfl) q192 (Or.inl rfl) dJ3_isEmpty_1 rfl e (fun v1 _ e => ?_)
  refine v_aload_n (pc' := 5) hc_J3_isEmpty dJ3_isEmpty_4 rfl rfl 0 rfl ?_
  refine v_gfI (pc' := 8) hc_J3_isEmpty ho_J3_isEmpty KJ3 2 (Nat.le_of_ble_eq_true rfl) q193 (Or.inl rfl) dJ3_isEmpty_5 rfl e (fun v2 _ e => ?_)
  refine v_icmp_ne (pt := 15) (pf := 11) hc_J3_isEmpty dJ3_isEmpty_8 rfl rfl e (fun _ e => ?_) (fun _ e => ?_)
  · refine v_iconst (pc' := 12) (v := 1) hc_J3_isEmpty dJ3_isEmpty_11 rfl rfl ?_
    refine v_goto (pt := 16) hc_J3_isEmpty dJ3_isEmpty_12 rfl ?_
    obtain ⟨rfl, rfl⟩ := ret_of e
    exact v_zret hc_J3_isEmpty rfl (ft := .boolean) rfl dJ3_isEmpty_16 rfl rfl
  · refine v_iconst (pc' := 16) (v := 0) hc_J3_isEmpty dJ3_isEmpty_15 rfl rfl ?_
    obtain ⟨rfl, rfl⟩ := ret_of e
    exact v_zret hc_J3_isEmpty rfl (ft := .boolean) rfl dJ3_isEmpty_16 rfl rfl
theorem w_J3_isEmpty (D : va_G) (l : Launch) (hl : l.stackTraces = false) (x0 : Nat) (h : AH) {r : Int32} {hF : AH} (e : f_J3_isEmpty x0 h = some (r, hF)) : MetV D l yJ3_isEmpty (Cond.code yJ3_isEmpty cJ3_isEmpty 1 (Option.some .boolean)) 1 48 [.ref x0] h hF (oI r) :=
  met_ofF (by decide +kernel) hl (Nat.le_of_ble_eq_true rfl) rfl (v_J3_isEmpty D l hl [.ref x0] h x0 h e)
/-! java/util/ArrayDeque.inc(II)I  -/
abbrev G_J3_inc (D : va_G) (l : Launch) (as : List Value) (h0 hF : AH) (o : Out) : CT := (D, l, (yJ3_inc.cls, yJ3_inc, cJ3_inc, 2, (Option.some .int), 1, 48, []), as, h0, hF, o)
theorem hc_J3_inc {D : va_G} {l : Launch} {as : List Value} {h0 hF : AH} {o : Out} : gC (G_J3_inc D l as h0 hF o) = cJ3_inc := rfl
theorem ho_J3_inc {D : va_G} {l : Launch} {as : List Value} {h0 hF : AH} {o : Out} : gO (G_J3_inc D l as h0 hF o) = "java/util/ArrayDeque" := rfl
theorem hp_J3_inc {D : va_G} {l : Launch} {as : List Value} {h0 hF : AH} {o : Out} (pc : Nat) : ∀ z ∈ tableOf (gHd (G_J3_inc D l as h0 hF o)), covers z pc = false := hpN
def f_J3_inc (x0 : Int32) (x1 : Int32) (h : AH) : Option (Int32 × AH) :=
  if (x0 + 1) < x1 then (
    some ((x0 + 1), h)
  ) else (
    some ((0 : Int32), h)
  )
theorem v_J3_inc (D : va_G) (l : Launch) (hl : l.stackTraces = false) (as : List Value) (h0 : AH) {r : Int32} {hF : AH} (x0 : Int32) (x1 : Int32) (h : AH) (e : f_J3_inc x0 x1 h = some (r, hF)) : V (G_J3_inc D l as h0 hF (oI r)) h 0 [(0, .int x0), (1, .int x1)] [] := by
  unfold f_J3_inc at e
  refine v_iinc (pc' := 3) (lv' := [(0, .int (x0 + 1)), (1, .int x1)]) (v := x0 + 1) hc_J3_inc dJ3_inc_0 rfl 0 rfl rfl (Nat.le_of_ble_eq_true rfl) rfl ?_
  refine v_iload_n (pc' := 4) hc_J3_inc dJ3_inc_3 rfl rfl 0 rfl ?_
  refine v_iload_n (pc' := 5) hc_J3_inc dJ3_inc_4 rfl rfl 1 rfl ?_
  refine v_icmp_lt (pt := 10) (pf := 8) hc_J3_inc dJ3_inc_5 rfl rfl e (fun _ e => ?_) (fun _ e => ?_)
  · refine v_iload_n (pc' := 11) hc_J3_inc dJ3_inc_10 rfl rfl 0 rfl ?_
    obtain ⟨rfl, rfl⟩ := ret_of e
    exact v_iret hc_J3_inc rfl dJ3_inc_11 rfl rfl
  · refine v_iconst (pc' := 9) (v := 0) hc_J3_inc dJ3_inc_8 rfl rfl ?_
    refine v_istore_n (pc' := 10) (lv' := [(0, .int (0 : Int32)), (1, .int x1)]) hc_J3_inc dJ3_inc_9 rfl rfl (Nat.le_of_ble_eq_true rfl) rfl ?_
    refine v_iload_n (pc' := 11) hc_J3_inc dJ3_inc_10 rfl rfl 0 rfl ?_
    obtain ⟨rfl, rfl⟩ := ret_of e
    exact v_iret hc_J3_inc rfl dJ3_inc_11 rfl rfl
theorem w_J3_inc (D : va_G) (l : Launch) (hl : l.stackTraces = false) (x0 : Int32) (x1 : Int32) (h : AH) {r : Int32} {hF : AH} (e : f_J3_inc x0 x1 h = some (r, hF)) : MetV D l yJ3_inc (Cond.code yJ3_inc cJ3_inc 2 (Option.some .int)) 1 48 [.int x0, .int x1] h hF (oI r) :=
  met_ofF (by decide +kernel) hl (Nat.le_of_ble_eq_true rfl) rfl (v_J3_inc D l hl [.int x0, .int x1] h x0 x1 h e)
/-! java/util/ArrayDeque.pollFirst()Ljava/lang/Object;  -/
abbrev G_J3_pollFirst (D : va_G) (l : Launch) (as : List Value) (h0 hF : AH) (o : Out) : CT := (D, l, (yJ3_pollFirst.cls, yJ3_pollFirst, cJ3_pollFirst, 4, (Option.some (.object "java/lang/Object")), 2, 69, []), as, h0, hF, o)
theorem hc_J3_pollFirst {D : va_G} {l : Launch} {as : List Value} {h0 hF : AH} {o : Out} : gC (G_J3_pollFirst D l as h0 hF o) = cJ3_pollFirst := rfl
theorem ho_J3_pollFirst {D : va_G} {l : Launch} {as : List Value} {h0 hF : AH} {o : Out} : gO (G_J3_pollFirst D l as h0 hF o) = "java/util/ArrayDeque" := rfl
theorem hp_J3_pollFirst {D : va_G} {l : Launch} {as : List Value} {h0 hF : AH} {o : Out} (pc : Nat) : ∀ z ∈ tableOf (gHd (G_J3_pollFirst D l as h0 hF o)), covers z pc = false := hpN
def f_J3_pollFirst (x0 : Nat) (h : AH) : Option (Nat × AH) :=
  bd (gtR h 17 x0 0) fun v1 =>
  bd (gtI h 17 x0 1) fun v2 =>
  bd2 (f_J3_elementAt v1 v2 h) fun r3 h4 =>
  bd (stQ h4 v1 v2 none) fun h6 =>
  bd (aLn h6 v1) fun v7 =>
  bd2 (f_J3_inc v2 v7 h6) fun r8 h9 =>
  bd (stF h9 17 x0 1 (.int r8)) fun h11 =>
  some (r3, h11)
theorem v_J3_pollFirst (D : va_G) (l : Launch) (hl : l.stackTraces = false) (as : List Value) (h0 : AH) {r : Nat} {hF : AH} (x0 : Nat) (h : AH) (e : f_J3_pollFirst x0 h = some (r, hF)) : V (G_J3_pollFirst D l as h0 hF (oR r)) h 0 [(0, .ref x0)] [] := by
  unfold f_J3_pollFirst at e
  refine v_aload_n (pc' := 1) hc_J3_pollFirst dJ3_pollFirst_0 rfl rfl 0 rfl ?_
  refine v_gfR (pc' := 4) hc_J3_pollFirst ho_J3_pollFirst KJ3 0 (Nat.le_of_ble_eq_true rfl) q191 (Or.inl rfl) dJ3_pollFirst_1 rfl e (fun v1 _ e => ?_)
  refine v_dup (pc' := 5) hc_J3_pollFirst dJ3_pollFirst_4 rfl rfl ?_
  refine v_astore_n (pc' := 6) (lv' := [(1, .ref v1), (0, .ref x0)]) hc_J3_pollFirst dJ3_pollFirst_5 rfl rfl (Nat.le_of_ble_eq_true rfl) rfl ?_
  refine v_aload_n (pc' := 7) hc_J3_pollFirst dJ3_pollFirst_6 rfl rfl 1 rfl ?_
  refine v_gfI (pc' := 10) hc_J3_pollFirst ho_J3_pollFirst KJ3 1 (Nat.le_of_ble_eq_true rfl) q192 (Or.inl rfl) dJ3_pollFirst_7 rfl e (fun v2 _ e => ?_)
  refine v_dup (pc' := 11) hc_J3_pollFirst dJ3_pollFirst_10 rfl rfl ?_
  refine v_istore_n (pc' := 12) (lv' := [(2, .int v2), (1, .ref v1), (0, .ref x0)]) hc_J3_pollFirst dJ3_pollFirst_11 rfl rfl (Nat.le_of_ble_eq_true rfl) rfl ?_
  obtain ⟨r3, h4, e5, e⟩ := bd2_of e
  refine k_S (pc' := 15) (n := 2) hc_J3_pollFirst ho_J3_pollFirst (w_J3_elementAt D l hl v1 v2 h e5) (wA_l q1499) q1500 q80 q1501 hy_99 ⟨Nat.le_of_ble_eq_true rfl, Nat.le_of_ble_eq_true rfl⟩ rfl rfl (Nat.le_of_ble_eq_true rfl) dJ3_pollFirst_12 rfl (kS ?_) kN
  refine v_astore_n (pc' := 16) (lv' := [(3, .ref r3), (2, .int v2), (1, .ref v1), (0, .ref x0)]) hc_J3_pollFirst dJ3_pollFirst_15 rfl rfl (Nat.le_of_ble_eq_true rfl) rfl ?_
  refine v_aload_n (pc' := 17) hc_J3_pollFirst dJ3_pollFirst_16 rfl rfl 0 rfl ?_
  refine v_ifnull (pc' := 20) hc_J3_pollFirst dJ3_pollFirst_17 rfl ?_
  refine v_aload_n (pc' := 21) hc_J3_pollFirst dJ3_pollFirst_20 rfl rfl 2 rfl ?_
  refine v_iload_n (pc' := 22) hc_J3_pollFirst dJ3_pollFirst_21 rfl rfl 1 rfl ?_
  refine v_null (pc' := 23) hc_J3_pollFirst dJ3_pollFirst_22 rfl ?_
  refine v_aastN (pc' := 24) hc_J3_pollFirst dJ3_pollFirst_23 rfl e (fun h6 _ e => ?_)
  refine v_aload_n (pc' := 25) hc_J3_pollFirst dJ3_pollFirst_24 rfl rfl 3 rfl ?_
  refine v_iload_n (pc' := 26) hc_J3_pollFirst dJ3_pollFirst_25 rfl rfl 1 rfl ?_
  refine v_aload_n (pc' := 27) hc_J3_pollFirst dJ3_pollFirst_26 rfl rfl 2 rfl ?_
  refine v_alen (pc' := 28) hc_J3_pollFirst dJ3_pollFirst_27 rfl e (fun v7 _ e => ?_)
  obtain ⟨r8, h9, e10, e⟩ := bd2_of e
  refine k_S (pc' := 31) (n := 2) hc_J3_pollFirst ho_J3_pollFirst (w_J3_inc D l hl v2 v7 h6 e10) (wA_l q2219) q2220 q80 q2221 hy_345 ⟨Nat.le_of_ble_eq_true rfl, Nat.le_of_ble_eq_true rfl⟩ rfl rfl (Nat.le_of_ble_eq_true rfl) dJ3_pollFirst_28 rfl (kS ?_) kN
  refine v_pf (pc' := 34) hc_J3_pollFirst ho_J3_pollFirst KJ3 1 (Nat.le_of_ble_eq_true rfl) q192 (Or.inl rfl) rfl dJ3_pollFirst_31 rfl rfl rfl e (fun h11 _ e => ?_)
  refine v_aload_n (pc' := 35) hc_J3_pollFirst dJ3_pollFirst_34 rfl rfl 0 rfl ?_
  obtain ⟨rfl, rfl⟩ := ret_of e
  exact v_aret hc_J3_pollFirst rfl (Or.inl ⟨_, rfl⟩) (Or.inr ⟨_, rfl⟩) dJ3_pollFirst_35 rfl rfl
theorem w_J3_pollFirst (D : va_G) (l : Launch) (hl : l.stackTraces = false) (x0 : Nat) (h : AH) {r : Nat} {hF : AH} (e : f_J3_pollFirst x0 h = some (r, hF)) : MetV D l yJ3_pollFirst (Cond.code yJ3_pollFirst cJ3_pollFirst 4 (Option.some (.object "java/lang/Object"))) 2 69 [.ref x0] h hF (oR r) :=
  met_ofF (by decide +kernel) hl (Nat.le_of_ble_eq_true rfl) rfl (v_J3_pollFirst D l hl [.ref x0] h x0 h e)
/-! java/util/ArrayDeque.removeFirst()Ljava/lang/Object;  -/
abbrev G_J3_removeFirst (D : va_G) (l : Launch) (as : List Value) (h0 hF : AH) (o : Out) : CT := (D, l, (yJ3_removeFirst.cls, yJ3_removeFirst, cJ3_removeFirst, 2, (Option.some (.object "java/lang/Object")), 3, 92, []), as, h0, hF, o)
theorem hc_J3_removeFirst {D : va_G} {l : Launch} {as : List Value} {h0 hF : AH} {o : Out} : gC (G_J3_removeFirst D l as h0 hF o) = cJ3_removeFirst := rfl
theorem ho_J3_removeFirst {D : va_G} {l : Launch} {as : List Value} {h0 hF : AH} {o : Out} : gO (G_J3_removeFirst D l as h0 hF o) = "java/util/ArrayDeque" := rfl
theorem hp_J3_removeFirst {D : va_G} {l : Launch} {as : List Value} {h0 hF : AH} {o : Out} (pc : Nat) : ∀ z ∈ tableOf (gHd (G_J3_removeFirst D l as h0 hF o)), covers z pc = false := hpN
def f_J3_removeFirst (x0 : Nat) (h : AH) : Option (Nat × AH) :=
  gd (isC h 17 x0) <|
  bd2 (f_J3_pollFirst x0 h) fun r2 h3 =>
  some (r2, h3)
theorem v_J3_removeFirst (D : va_G) (l : Launch) (hl : l.stackTraces = false) (as : List Value) (h0 : AH) {r : Nat} {hF : AH} (x0 : Nat) (h : AH) (e : f_J3_removeFirst x0 h = some (r, hF)) : V (G_J3_removeFirst D l as h0 hF (oR r)) h 0 [(0, .ref x0)] [] := by
  unfold f_J3_removeFirst at e
  refine v_aload_n (pc' := 1) hc_J3_removeFirst dJ3_removeFirst_0 rfl rfl 0 rfl ?_
  obtain ⟨c1, e⟩ := gd_of e
  obtain ⟨r2, h3, e4, e⟩ := bd2_of e
  refine k_V (pc' := 4) (ci := 17) (n := 0) hc_J3_removeFirst ho_J3_removeFirst rfl c1 (w_J3_pollFirst D l hl x0 h e4) (wA_l q2215) q2216 (wA_l q2217) q80 q2218 hy_346 ⟨Nat.le_of_ble_eq_true rfl, Nat.le_of_ble_eq_true rfl⟩ rfl rfl (Nat.le_of_ble_eq_true rfl) dJ3_removeFirst_1 rfl (kS ?_) kN
  refine v_astore_n (pc' := 5) (lv' := [(1, .ref r2), (0, .ref x0)]) hc_J3_removeFirst dJ3_removeFirst_4 rfl rfl (Nat.le_of_ble_eq_true rfl) rfl ?_
  refine v_aload_n (pc' := 6) hc_J3_removeFirst dJ3_removeFirst_5 rfl rfl 0 rfl ?_
  refine v_ifnonnull (pt := 17) hc_J3_removeFirst dJ3_removeFirst_6 rfl ?_
  refine v_aload_n (pc' := 18) hc_J3_removeFirst dJ3_removeFirst_17 rfl rfl 0 rfl ?_
  obtain ⟨rfl, rfl⟩ := ret_of e
  exact v_aret hc_J3_removeFirst rfl (Or.inl ⟨_, rfl⟩) (Or.inr ⟨_, rfl⟩) dJ3_removeFirst_18 rfl rfl
theorem w_J3_removeFirst (D : va_G) (l : Launch) (hl : l.stackTraces = false) (x0 : Nat) (h : AH) {r : Nat} {hF : AH} (e : f_J3_removeFirst x0 h = some (r, hF)) : MetV D l yJ3_removeFirst (Cond.code yJ3_removeFirst cJ3_removeFirst 2 (Option.some (.object "java/lang/Object"))) 3 92 [.ref x0] h hF (oR r) :=
  met_ofF (by decide +kernel) hl (Nat.le_of_ble_eq_true rfl) rfl (v_J3_removeFirst D l hl [.ref x0] h x0 h e)
/-! java/util/ArrayDeque.pop()Ljava/lang/Object;  -/
abbrev G_J3_pop (D : va_G) (l : Launch) (as : List Value) (h0 hF : AH) (o : Out) : CT := (D, l, (yJ3_pop.cls, yJ3_pop, cJ3_pop, 1, (Option.some (.object "java/lang/Object")), 4, 113, []), as, h0, hF, o)
theorem hc_J3_pop {D : va_G} {l : Launch} {as : List Value} {h0 hF : AH} {o : Out} : gC (G_J3_pop D l as h0 hF o) = cJ3_pop := rfl
theorem ho_J3_pop {D : va_G} {l : Launch} {as : List Value} {h0 hF : AH} {o : Out} : gO (G_J3_pop D l as h0 hF o) = "java/util/ArrayDeque" := rfl
theorem hp_J3_pop {D : va_G} {l : Launch} {as : List Value} {h0 hF : AH} {o : Out} (pc : Nat) : ∀ z ∈ tableOf (gHd (G_J3_pop D l as h0 hF o)), covers z pc = false := hpN
def f_J3_pop (x0 : Nat) (h : AH) : Option (Nat × AH) :=
  gd (isC h 17 x0) <|
  bd2 (f_J3_removeFirst x0 h) fun r2 h3 =>
  some (r2, h3)
theorem v_J3_pop (D : va_G) (l : Launch) (hl : l.stackTraces = false) (as : List Value) (h0 : AH) {r : Nat} {hF : AH} (x0 : Nat) (h : AH) (e : f_J3_pop x0 h = some (r, hF)) : V (G_J3_pop D l as h0 hF (oR r)) h 0 [(0, .ref x0)] [] := by
  unfold f_J3_pop at e
  refine v_aload_n (pc' := 1) hc_J3_pop dJ3_pop_0 rfl rfl 0 rfl ?_
  obtain ⟨c1, e⟩ := gd_of e
  obtain ⟨r2, h3, e4, e⟩ := bd2_of e
  refine k_V (pc' := 4) (ci := 17) (n := 0) hc_J3_pop ho_J3_pop rfl c1 (w_J3_removeFirst D l hl x0 h e4) (wA_l q2211) q2212 (wA_l q2213) q80 q2214 hy_347 ⟨Nat.le_of_ble_eq_true rfl, Nat.le_of_ble_eq_true rfl⟩ rfl rfl (Nat.le_of_ble_eq_true rfl) dJ3_pop_1 rfl (kS ?_) kN
  obtain ⟨rfl, rfl⟩ := ret_of e
  exact v_aret hc_J3_pop rfl (Or.inl ⟨_, rfl⟩) (Or.inr ⟨_, rfl⟩) dJ3_pop_4 rfl rfl
theorem w_J3_pop (D : va_G) (l : Launch) (hl : l.stackTraces = false) (x0 : Nat) (h : AH) {r : Nat} {hF : AH} (e : f_J3_pop x0 h = some (r, hF)) : MetV D l yJ3_pop (Cond.code yJ3_pop cJ3_pop 1 (Option.some (.object "java/lang/Object"))) 4 113 [.ref x0] h hF (oR r) :=
  met_ofF (by decide +kernel) hl (Nat.le_of_ble_eq_true rfl) rfl (v_J3_pop D l hl [.ref x0] h x0 h e)
/-! java/util/ArrayDeque.circularClear([Ljava/lang/Object;II)V  -/
abbrev G_J3_circularClear (D : va_G) (l : Launch) (as : List Value) (h0 hF : AH) (o : Out) : CT := (D, l, (yJ3_circularClear.cls, yJ3_circularClear, cJ3_circularClear, 4, (Option.none : Option FieldType), 1, 48, []), as, h0, hF, o)
theorem hc_J3_circularClear {D : va_G} {l : Launch} {as : List Value} {h0 hF : AH} {o : Out} : gC (G_J3_circularClear D l as h0 hF o) = cJ3_circularClear := rfl
theorem ho_J3_circularClear {D : va_G} {l : Launch} {as : List Value} {h0 hF : AH} {o : Out} : gO (G_J3_circularClear D l as h0 hF o) = "java/util/ArrayDeque" := rfl
theorem hp_J3_circularClear {D : va_G} {l : Launch} {as : List Value} {h0 hF : AH} {o : Out} (pc : Nat) : ∀ z ∈ tableOf (gHd (G_J3_circularClear D l as h0 hF o)), covers z pc = false := hpN
def fb_J3_circularClear_l12 (rec : Nat → Int32 → Int32 → Int32 → AH → Option (Unit × AH)) (x0 : Nat) (x1 : Int32) (x2 : Int32) (x3 : Int32) (h : AH) : Option (Unit × AH) :=
  if x3 ≤ x1 then (
    if x3 = x2 then (
      some ((), h)
    ) else (
      rec x0 (0 : Int32) x2 x2 h
    )
  ) else (
    bd (stQ h x0 x1 none) fun h1 =>
    rec x0 (x1 + 1) x2 x3 h1
  )
def f_J3_circularClear_l12 : Nat → Nat → Int32 → Int32 → Int32 → AH → Option (Unit × AH)
  | 0 => fun _ _ _ _ _ => none
  | n + 1 => fb_J3_circularClear_l12 (f_J3_circularClear_l12 n) 
theorem w_J3_circularClear_l12 (D : va_G) (l : Launch) (hl : l.stackTraces = false) (as : List Value) (h0 : AH) {r : Unit} {hF : AH} : ∀ (n : Nat) (x0 : Nat) (x1 : Int32) (x2 : Int32) (x3 : Int32) (h : AH), f_J3_circularClear_l12 n x0 x1 x2 x3 h = some (r, hF) → V (G_J3_circularClear D l as h0 hF (oV r)) h 12 [(0, .ref x0), (1, .int x1), (2, .int x2), (3, .int x3)] [] := by
  intro n; induction n with
  | zero => intro x0 x1 x2 x3 h e; exact absurd (show (none : Option (Unit × AH)) = some _ from e) (fun z => nomatch z)
  | succ n IH =>
    intro x0 x1 x2 x3 h e
    have e : fb_J3_circularClear_l12 (f_J3_circularClear_l12 n) x0 x1 x2 x3 h = some (r, hF) := e
    unfold fb_J3_circularClear_l12 at e
    refine v_iload_n (pc' := 13) hc_J3_circularClear dJ3_circularClear_12 rfl rfl 1 rfl ?_
    refine v_iload_n (pc' := 14) hc_J3_circularClear dJ3_circularClear_13 rfl rfl 3 rfl ?_
    refine v_icmp_ge (pt := 27) (pf := 17) hc_J3_circularClear dJ3_circularClear_14 rfl rfl e (fun _ e => ?_) (fun _ e => ?_)
    · refine v_iload_n (pc' := 28) hc_J3_circularClear dJ3_circularClear_27 rfl rfl 3 rfl ?_
      refine v_iload_n (pc' := 29) hc_J3_circularClear dJ3_circularClear_28 rfl rfl 2 rfl ?_
      refine v_icmp_ne (pt := 35) (pf := 32) hc_J3_circularClear dJ3_circularClear_29 rfl rfl e (fun _ e => ?_) (fun _ e => ?_)
      · refine v_goto (pt := 42) hc_J3_circularClear dJ3_circularClear_32 rfl ?_
        obtain ⟨rfl, rfl⟩ := ret_of e
        exact v_ret hc_J3_circularClear rfl dJ3_circularClear_42 rfl rfl
      · refine v_iconst (pc' := 36) (v := 0) hc_J3_circularClear dJ3_circularClear_35 rfl rfl ?_
        refine v_istore_n (pc' := 37) (lv' := [(1, .int (0 : Int32)), (0, .ref x0), (2, .int x2), (3, .int x3)]) hc_J3_circularClear dJ3_circularClear_36 rfl rfl (Nat.le_of_ble_eq_true rfl) rfl ?_
        refine v_iload_n (pc' := 38) hc_J3_circularClear dJ3_circularClear_37 rfl rfl 2 rfl ?_
        refine v_istore_n (pc' := 39) (lv' := [(3, .int x2), (1, .int (0 : Int32)), (0, .ref x0), (2, .int x2)]) hc_J3_circularClear dJ3_circularClear_38 rfl rfl (Nat.le_of_ble_eq_true rfl) rfl ?_
        refine v_goto (pt := 12) hc_J3_circularClear dJ3_circularClear_39 rfl ?_
        refine v_pick [2, 1, 3, 0] rfl ?_
        exact IH x0 (0 : Int32) x2 x2 h e
    · refine v_aload_n (pc' := 18) hc_J3_circularClear dJ3_circularClear_17 rfl rfl 0 rfl ?_
      refine v_iload_n (pc' := 19) hc_J3_circularClear dJ3_circularClear_18 rfl rfl 1 rfl ?_
      refine v_null (pc' := 20) hc_J3_circularClear dJ3_circularClear_19 rfl ?_
      refine v_aastN (pc' := 21) hc_J3_circularClear dJ3_circularClear_20 rfl e (fun h1 _ e => ?_)
      refine v_iinc (pc' := 24) (lv' := [(1, .int (x1 + 1)), (0, .ref x0), (2, .int x2), (3, .int x3)]) (v := x1 + 1) hc_J3_circularClear dJ3_circularClear_21 rfl 1 rfl rfl (Nat.le_of_ble_eq_true rfl) rfl ?_
      refine v_goto (pt := 12) hc_J3_circularClear dJ3_circularClear_24 rfl ?_
      refine v_pick [1, 0, 2, 3] rfl ?_
      exact IH x0 (x1 + 1) x2 x3 h1 e
def f_J3_circularClear (x0 : Nat) (x1 : Int32) (x2 : Int32) (h : AH) : Option (Unit × AH) :=
  if x2 < x1 then (
    bd (aLn h x0) fun v1 =>
    f_J3_circularClear_l12 NN x0 x1 x2 v1 h
  ) else (
    f_J3_circularClear_l12 NN x0 x1 x2 x2 h
  )
theorem v_J3_circularClear (D : va_G) (l : Launch) (hl : l.stackTraces = false) (as : List Value) (h0 : AH) {r : Unit} {hF : AH} (x0 : Nat) (x1 : Int32) (x2 : Int32) (h : AH) (e : f_J3_circularClear x0 x1 x2 h = some (r, hF)) : V (G_J3_circularClear D l as h0 hF (oV r)) h 0 [(0, .ref x0), (1, .int x1), (2, .int x2)] [] := by
  unfold f_J3_circularClear at e
  refine v_iload_n (pc' := 1) hc_J3_circularClear dJ3_circularClear_0 rfl rfl 1 rfl ?_
  refine v_iload_n (pc' := 2) hc_J3_circularClear dJ3_circularClear_1 rfl rfl 2 rfl ?_
  refine v_icmp_gt (pt := 9) (pf := 5) hc_J3_circularClear dJ3_circularClear_2 rfl rfl e (fun _ e => ?_) (fun _ e => ?_)
  · refine v_aload_n (pc' := 10) hc_J3_circularClear dJ3_circularClear_9 rfl rfl 0 rfl ?_
    refine v_alen (pc' := 11) hc_J3_circularClear dJ3_circularClear_10 rfl e (fun v1 _ e => ?_)
    refine v_istore_n (pc' := 12) (lv' := [(3, .int v1), (0, .ref x0), (1, .int x1), (2, .int x2)]) hc_J3_circularClear dJ3_circularClear_11 rfl rfl (Nat.le_of_ble_eq_true rfl) rfl ?_
    refine v_pick [1, 2, 3, 0] rfl ?_
    exact w_J3_circularClear_l12 D l hl as h0 NN x0 x1 x2 v1 h e
  · refine v_iload_n (pc' := 6) hc_J3_circularClear dJ3_circularClear_5 rfl rfl 2 rfl ?_
    refine v_goto (pt := 11) hc_J3_circularClear dJ3_circularClear_6 rfl ?_
    refine v_istore_n (pc' := 12) (lv' := [(3, .int x2), (0, .ref x0), (1, .int x1), (2, .int x2)]) hc_J3_circularClear dJ3_circularClear_11 rfl rfl (Nat.le_of_ble_eq_true rfl) rfl ?_
    refine v_pick [1, 2, 3, 0] rfl ?_
    exact w_J3_circularClear_l12 D l hl as h0 NN x0 x1 x2 x2 h e
theorem w_J3_circularClear (D : va_G) (l : Launch) (hl : l.stackTraces = false) (x0 : Nat) (x1 : Int32) (x2 : Int32) (h : AH) {r : Unit} {hF : AH} (e : f_J3_circularClear x0 x1 x2 h = some (r, hF)) : MetV D l yJ3_circularClear (Cond.code yJ3_circularClear cJ3_circularClear 4 (Option.none : Option FieldType)) 1 48 [.ref x0, .int x1, .int x2] h hF (oV r) :=
  met_ofF (by decide +kernel) hl (Nat.le_of_ble_eq_true rfl) rfl (v_J3_circularClear D l hl [.ref x0, .int x1, .int x2] h x0 x1 x2 h e)
/-! java/util/ArrayDeque.clear()V  -/
abbrev G_J3_clear (D : va_G) (l : Launch) (as : List Value) (h0 hF : AH) (o : Out) : CT := (D, l, (yJ3_clear.cls, yJ3_clear, cJ3_clear, 1, (Option.none : Option FieldType), 2, 71, []), as, h0, hF, o)
theorem hc_J3_clear {D : va_G} {l : Launch} {as : List Value} {h0 hF : AH} {o : Out} : gC (G_J3_clear D l as h0 hF o) = cJ3_clear := rfl
theorem ho_J3_clear {D : va_G} {l : Launch} {as : List Value} {h0 hF : AH} {o : Out} : gO (G_J3_clear D l as h0 hF o) = "java/util/ArrayDeque" := rfl
theorem hp_J3_clear {D : va_G} {l : Launch} {as : List Value} {h0 hF : AH} {o : Out} (pc : Nat) : ∀ z ∈ tableOf (gHd (G_J3_clear D l as h0 hF o)), covers z pc = false := hpN
def f_J3_clear (x0 : Nat) (h : AH) : Option (Unit × AH) :=
  bd (gtR h 17 x0 0) fun v1 =>
  bd (gtI h 17 x0 1) fun v2 =>
  bd (gtI h 17 x0 2) fun v3 =>
  bd2 (f_J3_circularClear v1 v2 v3 h) fun r4 h5 =>
  bd (stF h5 17 x0 2 (.int (0 : Int32))) fun h7 =>
  bd (stF h7 17 x0 1 (.int (0 : Int32))) fun h8 =>
  some ((), h8)
theorem v_J3_clear (D : va_G) (l : Launch) (hl : l.stackTraces = false) (as : List Value) (h0 : AH) {r : Unit} {hF : AH} (x0 : Nat) (h : AH) (e : f_J3_clear x0 h = some (r, hF)) : V (G_J3_clear D l as h0 hF (oV r)) h 0 [(0, .ref x0)] [] := by
  unfold f_J3_clear at e
  refine v_aload_n (pc' := 1) hc_J3_clear dJ3_clear_0 rfl rfl 0 rfl ?_
  refine v_gfR (pc' := 4) hc_J3_clear ho_J3_clear KJ3 0 (Nat.le_of_ble_eq_true rfl) q191 (Or.inl rfl) dJ3_clear_1 rfl e (fun v1 _ e => ?_)
  refine v_aload_n (pc' := 5) hc_J3_clear dJ3_clear_4 rfl rfl 0 rfl ?_
  refine v_gfI (pc' := 8) hc_J3_clear ho_J3_clear KJ3 1 (Nat.le_of_ble_eq_true rfl) q192 (Or.inl rfl) dJ3_clear_5 rfl e (fun v2 _ e => ?_)
  refine v_aload_n (pc' := 9) hc_J3_clear dJ3_clear_8 rfl rfl 0 rfl ?_
  refine v_gfI (pc' := 12) hc_J3_clear ho_J3_clear KJ3 2 (Nat.le_of_ble_eq_true rfl) q193 (Or.inl rfl) dJ3_clear_9 rfl e (fun v3 _ e => ?_)
  obtain ⟨r4, h5, e6, e⟩ := bd2_of e
  refine k_S (pc' := 15) (n := 3) hc_J3_clear ho_J3_clear (w_J3_circularClear D l hl v1 v2 v3 h e6) (wA_l q2233) q2234 q80 q2235 hy_354 ⟨Nat.le_of_ble_eq_true rfl, Nat.le_of_ble_eq_true rfl⟩ rfl rfl (Nat.le_of_ble_eq_true rfl) dJ3_clear_12 rfl (kU ?_) kN
  refine v_aload_n (pc' := 16) hc_J3_clear dJ3_clear_15 rfl rfl 0 rfl ?_
  refine v_aload_n (pc' := 17) hc_J3_clear dJ3_clear_16 rfl rfl 0 rfl ?_
  refine v_iconst (pc' := 18) (v := 0) hc_J3_clear dJ3_clear_17 rfl rfl ?_
  refine v_dup_x1 (pc' := 19) hc_J3_clear dJ3_clear_18 rfl rfl rfl ?_
  refine v_pf (pc' := 22) hc_J3_clear ho_J3_clear KJ3 2 (Nat.le_of_ble_eq_true rfl) q193 (Or.inl rfl) rfl dJ3_clear_19 rfl rfl rfl e (fun h7 _ e => ?_)
  refine v_pf (pc' := 25) hc_J3_clear ho_J3_clear KJ3 1 (Nat.le_of_ble_eq_true rfl) q192 (Or.inl rfl) rfl dJ3_clear_22 rfl rfl rfl e (fun h8 _ e => ?_)
  obtain ⟨rfl, rfl⟩ := ret_of e
  exact v_ret hc_J3_clear rfl dJ3_clear_25 rfl rfl
theorem w_J3_clear (D : va_G) (l : Launch) (hl : l.stackTraces = false) (x0 : Nat) (h : AH) {r : Unit} {hF : AH} (e : f_J3_clear x0 h = some (r, hF)) : MetV D l yJ3_clear (Cond.code yJ3_clear cJ3_clear 1 (Option.none : Option FieldType)) 2 71 [.ref x0] h hF (oV r) :=
  met_ofF (by decide +kernel) hl (Nat.le_of_ble_eq_true rfl) rfl (v_J3_clear D l hl [.ref x0] h x0 h e)
