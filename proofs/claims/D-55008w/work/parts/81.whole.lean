/-! THE START, 5: from the pure law's answer to the claim's walk -/
set_option maxRecDepth 100000
set_option maxHeartbeats 1000000
theorem room_mono9 {s : State} {pl : Platform} {r r' : Room} (hf : r.frames ≤ r'.frames) (hl : r.locals ≤ r'.locals) (hc : r.cells ≤ r'.cells) (hs : r.slots ≤ r'.slots) (h : s.hasRoom pl r' = true) : s.hasRoom pl r = true := by
  simp only [State.hasRoom, Bool.and_eq_true, decide_eq_true_eq] at h ⊢
  obtain ⟨⟨⟨⟨h1, h2, h3, h4, h5, h6⟩, h7⟩, h8⟩, h9⟩ := h
  exact ⟨⟨⟨⟨by omega, by omega, by omega, by omega, by omega, h6⟩, by omega⟩, by omega⟩, h9⟩
theorem frame_drop {s t : State} {o : Outcome} {L : List Loc} {k n k' n' : Nat} (h : FrameEnd s o t L k n) (hL : ∀ q ∈ L, s.heap.size ≤ q.base) (hk : k ≤ k') (hn : n ≤ n') : Framed s o t [] k' n' := by
  obtain ⟨h1, h2, q1, q2, q3, q4, q5, q6⟩ := h
  refine ⟨h1, h2, q1, q2, Nat.le_trans q3 (Nat.add_le_add_left hk _), q4, Nat.le_trans q5 hn, fun a c hc => ?_⟩
  obtain ⟨c', x1, x2, x3, x4⟩ := q6 a c hc
  exact ⟨c', x1, x2, x3, fun i _ => x4 i (fun hm => absurd (Array.getElem?_eq_some_iff.mp hc).1 (Nat.not_lt.mpr (hL _ hm)))⟩
theorem flags_off (l : Launch) (h : l.flags = flags0) : l.stackTraces = false := by
  unfold Launch.stackTraces; rw [h]; decide
/-- the claim's walk out of the pure law -/
theorem whole_of (pure : ∀ (h : AH) (b L : Nat) (xs : Nat → Int32), L ≤ 96 → St0 h b L xs → ∃ hF, f_law b h = some (1, hF) ∧ aZ hF ≤ aZ h + 1200144 ∧ aS hF ≤ aS h + 5494330)
    {p : Program} {e : Env} {s : State} {m : MethodId} {below : List Frame} {meth : Method} {c : Code} (l : Launch) (hflags : l.flags = flags0) {b L : Nat} {xs : Nat → Int32} (hL : L ≤ 96) (C0 : lw_At p s m meth c b L xs) : W p l e room_1 s m #[Value.ref b] below meth c s.heap [] 0 0 (lw_Z below #[Value.ref b] s) (entryFrame m ([Value.ref b] : List Value).toArray 9) := by
  obtain ⟨hx, hb, hret, hml, hown, hts, hX, hbl, hlk, hgv, hnm, htab⟩ := C0
  have hg : ∀ c ∈ FL, c.before #[Value.ref b] s = true := flat_of_before _ hgv
  obtain ⟨D, hK⟩ := kAll hts
  obtain ⟨mi, hmi⟩ := va_Mi.of (hg _ fl_E.2.2.2.1)
  have En := ent0 hts hg hK hmi
  have S0 := st0_of (D := D) (mi := mi) (Nat.lt_of_le_of_lt hL (by decide)) hK hg hX hbl
  generalize hh : h00 D s (envE #[Value.ref b] s mi) = h at S0
  obtain ⟨hF, he, z1, z2⟩ := pure h b L xs hL S0
  have hE : aE h = envE #[Value.ref b] s mi := by rw [← hh]; rfl
  have hB : aB h = s.heap.size := by rw [← hh]; rfl
  have hZ : aZ h = s.heap.size := by rw [← hh]; rfl
  have Wc0 : Wc D h s s.heap := by rw [← hh]; exact h00_W
  have hl := flags_off l hflags
  have K := v_law D l hl [.ref b] h b h he
  intro T hT X
  have hle : aLe h hF := K.1
  have hent : entryFrame m ([Value.ref b] : List Value).toArray 9 = F0 m 0 (lg_sl [Value.ref b] ++ List.replicate (9 - (lg_sl [Value.ref b]).length) Slot.unset).toArray [] := lg_entry_eq ..
  have X' : Stand p l e (gRm (G_law D l [.ref b] h hF (oI 1))) s m #[Value.ref b] below meth c T [] 0 0 := { X with room := room_mono9 (by show 16 ≤ 8192; decide) (by show 392 ≤ 104096; decide) (by show aZ hF - aZ h ≤ 1200144; omega) (by show aS hF - aS h ≤ 5494330; omega) X.room }
  have Cx0 : Cx (G_law D l [.ref b] h hF (oI 1)) p s m meth c := by
    refine ⟨hx, hb, hml, hret, hown, hlk, hnm, htab, hl, Nat.le_of_eq hB, hZ, ?_⟩
    show Ent D (aB h) (aE h) s
    rw [hB, hE]; exact En
  have k2 := K.2 (aLe.rf h) p e s m below meth c s.heap [] _ Cx0 Wc0 va_S.rf (lv_entry [Value.ref b] (n := 9) (Nat.le_of_ble_eq_true rfl)) T hT (by
    rw [show aZ h - aZ (g0 (G_law D l [.ref b] h hF (oI 1))) = 0 from Nat.sub_self _, show aS h - aS (g0 (G_law D l [.ref b] h hF (oI 1))) = 0 from Nat.sub_self _]; exact X')
  obtain ⟨t, st, o, r1, r2, hq⟩ := k2
  rw [hent]
  refine ⟨t, st, o, r1, r2, ?_⟩
  rcases hq with ⟨⟨v, hv, ho, -, -⟩, L9, hfe, hL9⟩ | ⟨q, -, E9, ce, L9, ⟨hq, -⟩, -⟩
  · cases hv
    exact ⟨ho, frame_drop hfe (fun q hq => by have : aB h ≤ q.base := hL9 q hq; omega) (by show aZ hF - aZ h ≤ 1200144; omega) (by show aS hF - aS h ≤ 5494330; omega)⟩
  · cases hq
