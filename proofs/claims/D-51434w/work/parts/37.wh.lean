/-! THE WHOLE, out of the plain claim -/
set_option maxRecDepth 100000
/-- the plain claim: no machine in sight -/
def jPlain : Prop := ∀ (G : jG) (σ0 : jH) (b L : Nat) (xs : Nat → Int32), L ≤ 144 → jStart G σ0 b L xs → ∃ (n : Nat) (σ' : jH), L_law_b G n σ0 (some b) = some ((1 : Int32), σ') ∧ σ'.2.1 ≤ σ0.2.1 + 1200144 ∧ σ'.2.2 ≤ σ0.2.2 + 5495674
theorem Framed.narrow {s t : State} {o : Outcome} {L : List Loc} {k n k' n' : Nat} (h : FrameEnd s o t L k n) (hL : ∀ q ∈ L, s.heap.size ≤ q.base) (hk : k ≤ k') (hn : n ≤ n') : Framed s o t [] k' n' := by
  obtain ⟨h1, h2, h3, h4, h5, h6, h7, h8⟩ := h
  refine ⟨h1, h2, h3, h4, Nat.le_trans h5 (Nat.add_le_add_left hk _), h6, Nat.le_trans h7 hn, fun a c hc => ?_⟩
  obtain ⟨c', g1, g2, g3, g4⟩ := h8 a c hc
  refine ⟨c', g1, g2, g3, fun i hi => g4 i (fun hm => ?_)⟩
  have h9 := hL _ hm
  have h10 : a < s.heap.size := (Array.getElem?_eq_some_iff.mp hc).1
  exact absurd h10 (Nat.not_lt.mpr h9)
theorem Stand.room' {p : Program} {l : Launch} {e : Env} {R R' : Room} {s : State} {m : MethodId} {args : Array Value} {below : List Frame} {meth : Method} {c : Code} {T : State} {locs : List Loc} {cells slots : Nat} (X : Stand p l e R s m args below meth c T locs cells slots) (h1 : R'.frames ≤ R.frames) (h2 : R'.cells ≤ R.cells) (h3 : R'.slots ≤ R.slots) (h4 : R'.locals ≤ R.locals) : Stand p l e R' s m args below meth c T locs cells slots := by
  have hr : s.hasRoom e.platform R' = true := by
    have h7 := X.room
    simp only [State.hasRoom, Bool.and_eq_true, decide_eq_true_eq] at h7 ⊢
    obtain ⟨⟨⟨⟨p1, p2, p3, p4, p5, p6⟩, p7⟩, p8⟩, p9⟩ := h7
    exact ⟨⟨⟨⟨by omega, by omega, by omega, by omega, by omega, p6⟩, by omega⟩, by omega⟩, p9⟩
  exact ⟨X.admits, X.cas, X.clock, X.frames, hr, X.hears, X.method, X.code, X.here, X.tail, X.warmed, X.limits, X.bytes, X.same⟩
theorem whole_of (hplain : jPlain) {p : Program} {e : Env} {s : State} {m : MethodId} {below : List Frame} {meth : Method} {c : Code} (l : Launch) (hflags : l.flags = flags0) {b L : Nat} {xs : Nat → Int32} (hL : L ≤ 144) (C0 : lw_At p s m meth c b L xs) : W p l e room_1 s m #[Value.ref b] below meth c s.heap [] 0 0 (lw_Z below #[Value.ref b] s) (entryFrame m ([Value.ref b] : List Value).toArray 9) := by
  obtain ⟨hx, hb, hr, hml, hown, hts, hX, hbl, hlocks, hgv⟩ := C0
  obtain ⟨G, ad, t0, t1, t2, t3, t4, hn0, hG, hK⟩ := st_gl hts hgv
  obtain ⟨σ0, hst, hs0⟩ := st_heap hL hX hbl hn0 hG hK
  obtain ⟨n, σ', e1, e2, e3⟩ := hplain G σ0 b L xs hL hs0
  have hfl : l.stackTraces = false := by
    unfold Launch.stackTraces
    rw [hflags]
    decide
  have Wk := wk_L_law l hfl G n σ0 (some b) (1, σ')
  have hta : ∀ w ∈ lw_all, w.before #[Value.ref b] s = true := fun w h => hts w (lw_all_tbl h)
  have hl := lv_entry ([.ref b]) (n := 9) (Nat.le_of_ble_eq_true rfl)
  rw [lg_entry_eq]
  generalize (lg_sl ([.ref b]) ++ List.replicate (9 - (lg_sl ([.ref b])).length) Slot.unset).toArray = ls at hl ⊢
  have hl : lv_has ls 9 [(0, va_rf (some b))] := hl
  have hX9 : jCx p c cL_law 9 s m #[Value.ref b] RX0 G meth := ⟨⟨hx, hb, hml, hown, hta⟩, hG, hlocks⟩
  obtain ⟨hle, hW⟩ := Wk p e s m #[Value.ref b] below meth c ls hX9 hr hl e1
  intro T hT X
  have X' := Stand.room' (R' := { frames := 30, cells := σ'.2.1 - σ0.2.1, slots := σ'.2.2 - σ0.2.2, locals := 1430 }) X (by decide) (by show σ'.2.1 - σ0.2.1 ≤ 1200144; omega) (by show σ'.2.2 - σ0.2.2 ≤ 5495674; omega) (by decide)
  have hW' := hW jLe.rf s.heap [] hst.inv
  rw [show σ0.2.1 - σ0.2.1 = 0 by omega, show σ0.2.2 - σ0.2.2 = 0 by omega] at hW'
  obtain ⟨t, st, o, q1, q2, q3, LL, q4, q5⟩ := hW' T hT X'
  refine ⟨t, st, o, q1, q2, q3.1, Framed.narrow q4 (fun q hq => ?_) (by show σ'.2.1 - σ0.2.1 ≤ _; omega) (by show σ'.2.2 - σ0.2.2 ≤ _; omega)⟩
  have := q5 q hq
  rw [← hn0]
  exact this
