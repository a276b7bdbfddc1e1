/-! PURE LAW: numbers, reads and writes of the abstract heap -/
set_option maxRecDepth 100000
set_option maxHeartbeats 1000000
theorem nI_sub {a b : Nat} (h : b ≤ a) : nI a - nI b = nI (a - b) := by
  have h1 : nI (a - b) + nI b = nI a := by rw [nI_add, Nat.sub_add_cancel h]
  rw [← h1, Int32.add_sub_cancel]
theorem nI_mul (a b : Nat) : nI a * nI b = nI (a * b) := (Int32.ofNat_mul a b).symm
theorem nI_div {a b : Nat} (ha : a < 2 ^ 31) (hb : b < 2 ^ 31) : nI a / nI b = nI (a / b) := by
  apply Int32.toInt_inj.mp
  rw [Int32.toInt_div_of_ne_right _ _ (fun q => by
    have h2 := congrArg Int32.toInt q
    rw [nI_toInt hb] at h2
    have h3 : (-1 : Int32).toInt = -1 := rfl
    rw [h3] at h2; omega), nI_toInt ha, nI_toInt hb, nI_toInt (Nat.lt_of_le_of_lt (Nat.div_le_self a b) ha)]
  exact (Int.ofNat_tdiv a b).symm
theorem nI_rem {a b : Nat} (ha : a < 2 ^ 31) (hb : b < 2 ^ 31) : nI a - nI a / nI b * nI b = nI (a % b) := by
  rw [nI_div ha hb, nI_mul, nI_sub (Nat.div_mul_le_self a b)]
  congr 1
  have := Nat.div_add_mod a b
  rw [Nat.mul_comm] at this
  omega
theorem nI_shr {a : Nat} (ha : a < 2 ^ 31) : nI a >>> ((1 : Int32) &&& 31) = nI (a / 2) := pk_shrN ha _ 1 (by decide)
theorem ixIn_n {j n : Nat} (hj : j < 2 ^ 31) (h : j < n) : ixIn (nI j) n = true := by
  simp only [ixIn, Bool.and_eq_true, decide_eq_true_eq]
  exact ⟨nI_pos' hj, by rw [nI_clamp hj]; exact h⟩
abbrev qA (f : Nat → Option Nat) : (Nat → Int32) ⊕ (Nat → Int64) ⊕ (Nat → UInt32) ⊕ (Nat → UInt64) ⊕ (Nat → Option Nat) := .inr (.inr (.inr (.inr f)))
section HP
variable {h : AH} {a ci k n j : Nat} {fs : List Value} {f : Nat → Int32} {g : Nat → Option Nat}
theorem gtF_eq {v : Value} (c : aC h a = some (.inr (ci, fs))) (hk : fs[k]? = some v) : gtF h ci a k = some v := by
  unfold gtF; rw [show h.1 a = some (.inr (ci, fs)) from c]; simpa using hk
theorem gtI_eq {x : Int32} (c : aC h a = some (.inr (ci, fs))) (hk : fs[k]? = some (.int x)) : gtI h ci a k = some x := by
  unfold gtI; rw [gtF_eq c hk]; rfl
theorem gtR_eq {x : Nat} (c : aC h a = some (.inr (ci, fs))) (hk : fs[k]? = some (.ref x)) : gtR h ci a k = some x := by
  unfold gtR; rw [gtF_eq c hk]; rfl
theorem gtO_eq {x : Option Nat} (c : aC h a = some (.inr (ci, fs))) (hk : fs[k]? = some (va_rf x)) : gtO h ci a k = some x := by
  unfold gtO; rw [gtF_eq c hk]; cases x <;> rfl
theorem stF_eq {v : Value} (c : aC h a = some (.inr (ci, fs))) (hb : aB h ≤ a) (hk : k < fs.length) : stF h ci a k v = some (aUp h a (.inr (ci, fs.set k v))) := by
  unfold stF; rw [show h.1 a = some (.inr (ci, fs)) from c]; simp only; rw [if_pos ⟨trivial, hb, hk⟩]
theorem isC_eq (c : aC h a = some (.inr (ci, fs))) : isC h ci a = true := by
  unfold isC; rw [show h.1 a = some (.inr (ci, fs)) from c]; simp
theorem isC_ne {cj : Nat} (c : aC h a = some (.inr (cj, fs))) (hn : cj ≠ ci) : isC h ci a = false := by
  unfold isC; rw [show h.1 a = some (.inr (cj, fs)) from c]; simpa using hn
theorem isO_eq (c : aC h a = some (.inr (ci, fs))) : isO h a = true := by
  unfold isO; rw [show h.1 a = some (.inr (ci, fs)) from c]
theorem isAr_eq {c9 : (Nat → Int32) ⊕ (Nat → Int64) ⊕ (Nat → UInt32) ⊕ (Nat → UInt64) ⊕ (Nat → Option Nat)} (c : aC h a = some (.inl (k, n, c9))) : isAr h k a = true := by
  unfold isAr; rw [show h.1 a = some (.inl (k, n, c9)) from c]; simp
theorem arr_eq {c9 : (Nat → Int32) ⊕ (Nat → Int64) ⊕ (Nat → UInt32) ⊕ (Nat → UInt64) ⊕ (Nat → Option Nat)} (c : aC h a = some (.inl (k, n, c9))) : arr h k a = some (n, c9) := by
  unfold arr; rw [show h.1 a = some (.inl (k, n, c9)) from c]; simp
theorem aLn_eq {c9 : (Nat → Int32) ⊕ (Nat → Int64) ⊕ (Nat → UInt32) ⊕ (Nat → UInt64) ⊕ (Nat → Option Nat)} (c : aC h a = some (.inl (k, n, c9))) : aLn h a = some (nI n) := by
  unfold aLn; rw [show h.1 a = some (.inl (k, n, c9)) from c]; rfl
theorem ldI_eq (c : aC h a = some (.inl (k, n, .inl f))) (hj : j < n) (hn : n < 2 ^ 31) : ldI h k a (nI j) = some (f j) := by
  unfold ldI; rw [arr_eq c]; simp only; rw [if_pos (ixIn_n (by omega) hj), nI_clamp (by omega)]
theorem ldQ_eq (c : aC h a = some (.inl (4, n, qA g))) (hj : j < n) (hn : n < 2 ^ 31) : ldQ h a (nI j) = some (g j) := by
  unfold ldQ; rw [arr_eq c]; simp only; rw [if_pos (ixIn_n (by omega) hj), nI_clamp (by omega)]
theorem ldN_eq {y : Nat} (c : aC h a = some (.inl (4, n, qA g))) (hj : j < n) (hn : n < 2 ^ 31) (hy : g j = some y) : ldN h a (nI j) = some y := by
  unfold ldN; rw [ldQ_eq c hj hn, hy]
theorem stI_eq {x : Int32} (c : aC h a = some (.inl (0, n, .inl f))) (hb : aB h ≤ a) (hj : j < n) (hn : n < 2 ^ 31) : stI h a (nI j) x = some (aUp h a (.inl (0, n, .inl (upd f j x)))) := by
  unfold stI; rw [arr_eq c]; simp only; rw [if_pos ⟨ixIn_n (by omega) hj, hb⟩, nI_clamp (by omega)]
theorem stB_eq {x : Int32} (c : aC h a = some (.inl (3, n, .inl f))) (hb : aB h ≤ a) (hj : j < n) (hn : n < 2 ^ 31) : stB h a (nI j) x = some (aUp h a (.inl (3, n, .inl (upd f j x.toInt8.toInt32)))) := by
  unfold stB; rw [arr_eq c]; simp only; rw [if_pos ⟨ixIn_n (by omega) hj, hb⟩, nI_clamp (by omega)]
theorem stQ_eq {v : Option Nat} (c : aC h a = some (.inl (4, n, qA g))) (hb : aB h ≤ a) (hj : j < n) (hn : n < 2 ^ 31) (hv : okQ h v = true) : stQ h a (nI j) v = some (aUp h a (.inl (4, n, qA (va_up g j v)))) := by
  unfold stQ; rw [arr_eq c]; simp only; rw [if_pos ⟨ixIn_n (by omega) hj, hb, hv⟩, nI_clamp (by omega)]
theorem nwA_eq (hn : n ≤ 65536) : nwA h k (nI n) = some (aZ h, aNew h n (.inl (k, n, zer k))) := by
  unfold nwA; rw [nI_clamp (by omega), if_pos ⟨nI_pos' (by omega), hn⟩]
theorem cpI_eq {k b na nb sp dp m : Nat} {f g : Nat → Int32} (ca : aC h a = some (.inl (k, na, .inl f))) (cb : aC h b = some (.inl (k, nb, .inl g))) (h1 : sp + m ≤ na) (h2 : dp + m ≤ nb) (hna : na < 2 ^ 31) (hnb : nb < 2 ^ 31) (hb : aB h ≤ b) : cpI h k a (nI sp) b (nI dp) (nI m) = some (aUp h b (.inl (k, nb, .inl (va_cpy f g sp dp m)))) := by
  unfold cpI; rw [arr_eq ca, arr_eq cb]; simp only
  rw [nI_clamp (by omega), nI_clamp (by omega), nI_clamp (by omega), if_pos ⟨nI_pos' (by omega), nI_pos' (by omega), nI_pos' (by omega), h1, h2, hb⟩]
theorem cpQ_eq {b na nb sp dp m : Nat} {f g : Nat → Option Nat} (ca : aC h a = some (.inl (4, na, qA f))) (cb : aC h b = some (.inl (4, nb, qA g))) (h1 : sp + m ≤ na) (h2 : dp + m ≤ nb) (hna : na < 2 ^ 31) (hnb : nb < 2 ^ 31) (hb : aB h ≤ b) : cpQ h a (nI sp) b (nI dp) (nI m) = some (aUp h b (.inl (4, nb, qA (va_cpy f g sp dp m)))) := by
  unfold cpQ; rw [arr_eq ca, arr_eq cb]; simp only
  rw [nI_clamp (by omega), nI_clamp (by omega), nI_clamp (by omega), if_pos ⟨nI_pos' (by omega), nI_pos' (by omega), nI_pos' (by omega), h1, h2, hb⟩]
end HP
theorem aC_up_self (h : AH) (a : Nat) (e : AE) : aC (aUp h a e) a = some e := by rw [aC_up, if_pos rfl]
theorem aC_up_ne {h : AH} {a q : Nat} {e : AE} (hq : q ≠ a) : aC (aUp h a e) q = aC h q := by rw [aC_up, if_neg hq]
theorem aC_new_self (h : AH) (n : Nat) (e : AE) : aC (aNew h n e) (aZ h) = some e := by rw [aC_new, if_pos rfl]
theorem aC_new_lt {h : AH} {n q : Nat} {e : AE} (hq : q < aZ h) : aC (aNew h n e) q = aC h q := by rw [aC_new, if_neg (Nat.ne_of_lt hq)]
/-- no cell beyond the size -/
def WF (h : AH) : Prop := aB h ≤ aZ h ∧ ∀ q e, aC h q = some e → q < aZ h
theorem WF.lt {h : AH} (w : WF h) {q : Nat} {e : AE} (c : aC h q = some e) : q < aZ h := w.2 q e c
theorem WF.up {h : AH} (w : WF h) {a : Nat} {e e0 : AE} (c : aC h a = some e0) : WF (aUp h a e) := by
  refine ⟨w.1, fun q e1 hq => ?_⟩
  by_cases hqa : q = a
  · subst hqa; exact w.lt c
  · rw [aC_up_ne hqa] at hq; exact w.lt hq
theorem WF.nw {h : AH} (w : WF h) (n : Nat) (e : AE) : WF (aNew h n e) := by
  refine ⟨Nat.le_succ_of_le w.1, fun q e1 hq => ?_⟩
  rw [aZ_new]
  by_cases hqa : q = aZ h
  · omega
  · rw [aC_new, if_neg hqa] at hq; exact Nat.lt_succ_of_lt (w.lt hq)
