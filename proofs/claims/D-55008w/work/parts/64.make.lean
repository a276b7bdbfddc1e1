/-! PURE LAW: new objects, exceptions -/
set_option maxRecDepth 100000
set_option maxHeartbeats 1000000
theorem aUp_up (h : AH) (a : Nat) (e e' : AE) : aUp (aUp h a e) a e' = aUp h a e' := by
  refine Prod.ext (funext fun q => ?_) rfl
  show (if q = a then some e' else if q = a then some e else h.1 q) = if q = a then some e' else h.1 q
  split <;> rfl
theorem aUp_new (h : AH) (n : Nat) (e e' : AE) : aUp (aNew h n e) (aZ h) e' = aNew h n e' := by
  refine Prod.ext (funext fun q => ?_) rfl
  show (if q = aZ h then some e' else if q = aZ h then some e else h.1 q) = if q = aZ h then some e' else h.1 q
  split <;> rfl
theorem stF_up {h : AH} {a ci k : Nat} {fs : List Value} {v : Value} (hb : aB h ≤ a) (hk : k < fs.length) : stF (aUp h a (.inr (ci, fs))) ci a k v = some (aUp h a (.inr (ci, fs.set k v))) := by
  rw [stF_eq (h := aUp h a (.inr (ci, fs))) (aC_up_self _ _ _) hb hk, aUp_up]
theorem stF_new {h : AH} {n ci k : Nat} {fs : List Value} {v : Value} (w : WF h) (hk : k < fs.length) : stF (aNew h n (.inr (ci, fs))) ci (aZ h) k v = some (aNew h n (.inr (ci, fs.set k v))) := by
  rw [stF_eq (h := aNew h n (.inr (ci, fs))) (aC_new_self _ _ _) w.1 hk, aUp_new]
theorem outX_eq {α : Type} {h : AH} {q ci : Nat} {fs : List Value} (c : aC h q = some (.inr (ci, fs))) (hb : aB h ≤ q) (hci : ci < 27) : (outX h q : Option ((α ⊕ Nat) × AH)) = some (.inr q, h) := by
  unfold outX; rw [show h.1 q = some (.inr (ci, fs)) from c]; simp only; rw [if_pos ⟨hb, hci⟩]
theorem nr_b (b : Bool) : nrw .boolean (nI (b01 b)) = true := by cases b <;> decide
theorem f_inRange (x lo hi : Int32) (h : AH) : f_X1_inRange x lo hi h = some (if x < lo ∨ hi < x then 0 else 1, h) := by
  unfold f_X1_inRange
  by_cases h1 : x < lo
  · rw [if_pos h1, if_pos (Or.inl h1)]
  · rw [if_neg h1]
    by_cases h2 : hi < x
    · rw [if_pos h2, if_pos (Or.inr h2)]
    · rw [if_neg h2, if_neg (fun z => z.elim h1 h2)]
/-- a thrown exception without fields -/
def isE (h : AH) (ci q : Nat) : Prop := aB h ≤ q ∧ aC h q = some (.inr (ci, []))
theorem x_req0 {h : AH} (w : WF h) : f_X1_require 0 h = some (.inr (aZ h), aNew h 6 (.inr (21, []))) := by
  unfold f_X1_require nwX; rw [if_pos rfl, bd2_some, outX_eq (aC_new_self _ _ _) w.1 (by decide)]
theorem x_req1 {h : AH} : f_X1_require 1 h = some (.inl (), h) := by unfold f_X1_require; rw [if_neg (by decide)]
theorem x_reqI0 {h : AH} (w : WF h) : f_X1_requireIndex 0 h = some (.inr (aZ h), aNew h 6 (.inr (22, []))) := by
  unfold f_X1_requireIndex nwX; rw [if_pos rfl, bd2_some, outX_eq (aC_new_self _ _ _) w.1 (by decide)]
theorem x_reqI1 {h : AH} : f_X1_requireIndex 1 h = some (.inl (), h) := by unfold f_X1_requireIndex; rw [if_neg (by decide)]
theorem x_reqS0 {h : AH} (w : WF h) : f_X1_requireState 0 h = some (.inr (aZ h), aNew h 6 (.inr (23, []))) := by
  unfold f_X1_requireState nwX; rw [if_pos rfl, bd2_some, outX_eq (aC_new_self _ _ _) w.1 (by decide)]
theorem x_reqS1 {h : AH} : f_X1_requireState 1 h = some (.inl (), h) := by unfold f_X1_requireState; rw [if_neg (by decide)]
theorem x_reqE0 {h : AH} (w : WF h) : f_X1_requireElement 0 h = some (.inr (aZ h), aNew h 6 (.inr (24, []))) := by
  unfold f_X1_requireElement nwX; rw [if_pos rfl, bd2_some, outX_eq (aC_new_self _ _ _) w.1 (by decide)]
theorem x_reqE1 {h : AH} : f_X1_requireElement 1 h = some (.inl (), h) := by unfold f_X1_requireElement; rw [if_neg (by decide)]
def failC (c : Value) (r d : Int32) : List Value := [c, .null, .null, .null, .null, .int 0, .int r, .int d]
theorem x_all0 {h : AH} (w : WF h) (r d : Int32) : f_X1_allow 0 r d h = some (.inr (aZ h), aNew h 8 (.inr (6, failC .null r d))) := by
  unfold f_X1_allow nwX f_X7_init f_J10_init_3_6_n12 f_J9_init_3_6_n12 f_J9_init_3_6_n12_j41
  have k : ∀ {n : Nat}, n < 8 → n < 8 := fun h => h
  rw [if_pos rfl, bd2_some, stF_new w (Nat.le_of_ble_eq_true rfl), bd_some, stF_new w (Nat.le_of_ble_eq_true rfl), bd_some, stF_new w (Nat.le_of_ble_eq_true rfl), bd_some, if_pos rfl, stF_new w (Nat.le_of_ble_eq_true rfl), bd_some, stF_new w (Nat.le_of_ble_eq_true rfl), bd_some, stF_new w (Nat.le_of_ble_eq_true rfl), bd_some, if_pos rfl, stF_new w (Nat.le_of_ble_eq_true rfl), bd_some, bd2_some, bd2_some, stF_new w (Nat.le_of_ble_eq_true rfl), bd_some, stF_new w (Nat.le_of_ble_eq_true rfl), bd_some, bd2_some]
  rw [outX_eq (aC_new_self _ _ _) w.1 (by decide)]
  rfl
theorem x_all1 {h : AH} (r d : Int32) : f_X1_allow 1 r d h = some (.inl (), h) := by unfold f_X1_allow; rw [if_neg (by decide)]
/-- new Block -/
theorem mk_B {h : AH} (w : WF h) {r wr : Int32} {hd : Bool} : f_X8_init_2 (aZ h) r (nI (b01 hd)) wr (aNew h 3 (.inr (7, fsX8))) = some ((), aNew h 3 (.inr (7, [.int r, .int (nI (b01 hd)), .int wr]))) := by
  unfold f_X8_init_2
  rw [stF_new w (Nat.le_of_ble_eq_true rfl), bd_some, gd_t (nr_b hd), stF_new w (Nat.le_of_ble_eq_true rfl), bd_some, stF_new w (Nat.le_of_ble_eq_true rfl)]; rfl
theorem mk_I {h : AH} (w : WF h) {a b c : Int32} : f_X9_init (aZ h) a b c (aNew h 3 (.inr (8, fsX9))) = some ((), aNew h 3 (.inr (8, [.int a, .int b, .int c]))) := by
  unfold f_X9_init
  rw [stF_new w (Nat.le_of_ble_eq_true rfl), bd_some, stF_new w (Nat.le_of_ble_eq_true rfl), bd_some, stF_new w (Nat.le_of_ble_eq_true rfl)]; rfl
theorem mk_R {h : AH} (w : WF h) {a b c d e f : Int32} {k : Bool} : f_X10_init_2 (aZ h) a b c d e f (nI (b01 k)) (aNew h 7 (.inr (9, fsX10))) = some ((), aNew h 7 (.inr (9, [.int a, .int b, .int c, .int d, .int e, .int f, .int (nI (b01 k))]))) := by
  unfold f_X10_init_2
  rw [stF_new w (Nat.le_of_ble_eq_true rfl), bd_some, stF_new w (Nat.le_of_ble_eq_true rfl), bd_some, stF_new w (Nat.le_of_ble_eq_true rfl), bd_some, stF_new w (Nat.le_of_ble_eq_true rfl), bd_some, stF_new w (Nat.le_of_ble_eq_true rfl), bd_some, stF_new w (Nat.le_of_ble_eq_true rfl), bd_some, gd_t (nr_b k), stF_new w (Nat.le_of_ble_eq_true rfl)]; rfl
theorem mk_D {h : AH} (w : WF h) {a b c d : Int32} : f_X12_init (aZ h) a b c d (aNew h 4 (.inr (10, fsX12))) = some ((), aNew h 4 (.inr (10, [.int a, .int b, .int c, .int d]))) := by
  unfold f_X12_init
  rw [stF_new w (Nat.le_of_ble_eq_true rfl), bd_some, stF_new w (Nat.le_of_ble_eq_true rfl), bd_some, stF_new w (Nat.le_of_ble_eq_true rfl), bd_some, stF_new w (Nat.le_of_ble_eq_true rfl)]; rfl
/-- an index told by a caller -/
theorem ixO_some {x : Int32} {n i : Nat} (h : ixO x n = some i) : i < n ∧ x = nI i ∧ i < 2 ^ 31 := by
  unfold ixO at h
  split at h
  · rename_i h1
    cases h
    obtain ⟨j, hj, rfl⟩ := nI_of (x := x) (Int32.not_lt.mpr h1.1)
    rw [nI_clamp hj] at h1 ⊢
    exact ⟨h1.2, rfl, hj⟩
  · cases h
theorem ix_range {x : Int32} {n : Nat} (hn : n < 2 ^ 30) : (if x < 0 ∨ nI n - 1 < x then (0 : Int32) else 1) = if (ixO x n).isSome then 1 else 0 := by
  by_cases h0 : x < 0
  · rw [if_pos (Or.inl h0)]
    have : ixO x n = none := by unfold ixO; rw [if_neg (fun z => absurd z.1 (Int32.not_le.mpr h0))]
    rw [this]; rfl
  · obtain ⟨j, hj, rfl⟩ := nI_of h0
    have hi : ixO (nI j) n = if j < n then some j else none := by
      unfold ixO
      rw [nI_clamp hj]
      by_cases hjn : j < n
      · rw [if_pos ⟨nI_pos' hj, hjn⟩, if_pos hjn]
      · rw [if_neg (fun z => hjn z.2), if_neg hjn]
    rw [hi]
    cases n with
    | zero =>
      rw [if_neg (Nat.not_lt_zero j), if_pos (Or.inr ?_)]
      · rfl
      · show nI 0 - 1 < nI j
        exact Int32.lt_iff_toInt_lt.mpr (by rw [nI_toInt hj]; exact Int.lt_of_lt_of_le (show (nI 0 - 1).toInt < 0 by decide) (Int.natCast_nonneg j))
    | succ n =>
      rw [nI_pred]
      by_cases hjn : j < n + 1
      · rw [if_pos hjn, if_neg]
        · rfl
        · rintro (z | z)
          · exact h0 z
          · exact nI_nlt (Nat.le_of_lt_succ hjn) (by omega) z
      · rw [if_neg hjn, if_pos (Or.inr (nI_lt (by omega) hj))]; rfl
