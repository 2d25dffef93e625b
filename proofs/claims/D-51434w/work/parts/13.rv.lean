/-! rows of J: arrays' stores, new cells, casts, constants, calls, ends -/
set_option maxRecDepth 100000
theorem jnar_store {cI : ClassId} {n j : Nat} {f : Nat → Int32} {x' : Int32} {v : Value} (hv : v = .int x') : (arrV cI n (fun q => .int (f q))).setSlot j v = arrV cI n (fun q => .int (upd f j x' q)) := by
  rw [arrV_store, hv]
  congr 1
  funext q
  by_cases hq : q = j
  · subst hq; simp [updV, upd]
  · simp [updV, upd, hq]
section JR3
variable {p : Program} {l : Launch} {e : Env} {R : Room} {s : State} {m : MethodId} {args : Array Value} {below : List Frame} {meth : Method} {c : Code} {G : jG} {σ0 σ σ2 : jH} {Q : State → Prop}
variable {cc : ByteArray} {nL : Nat} {own : String} {pc : Nat} {ls : Array Slot} {rest : List Value}
theorem jIn_own {H : Heap} {locs : List Loc} {a : Nat} {b : jE} (hi : jInv G s σ H locs) (ha : σ.1 a = some (.inl b)) (han : G.2.2.1 ≤ a) : va_at G.1 jCl (a, jtoE G b) H := by
  obtain ⟨⟨φ, ws, ⟨ow, gh, hrel⟩, hφ, hP, hD⟩, hS, hz, hn⟩ := hi
  have hφa : φ a = some b := (hrel a _ ha).1
  rcases hφ a _ hφa with ⟨-, hw⟩ | ⟨hlt, -⟩
  · obtain ⟨q0, hq0⟩ := List.getElem?_of_mem hw
    exact hP q0 _ hq0
  · exact absurd han (Nat.not_le.mpr hlt)
theorem aI_some {r : Option Nat} {kd : Nat} {i v : Int32} (h : aI σ r kd i = some v) : ∃ (a n : Nat) (f : Nat → Int32), r = some a ∧ σ.1 a = some (jI kd n f) ∧ ¬ (i < 0 ∨ n ≤ i.toNatClampNeg) ∧ v = f i.toNatClampNeg := by
  unfold aI at h
  split at h
  · next k n f hx =>
    obtain ⟨a, rfl, ha⟩ := jar_some hx
    split at h
    · next hc =>
      obtain ⟨rfl, hc⟩ := hc
      cases h
      exact ⟨a, n, f, rfl, ha, hc, rfl⟩
    · cases h
  · cases h
theorem jin_sz {i : Int32} {n N : Nat} (h : ¬ (i < 0 ∨ n ≤ i.toNatClampNeg)) (hN : n ≤ N) : ¬ (i < 0 ∨ N ≤ i.toNatClampNeg) := fun q => q.elim (fun q => h (Or.inl q)) (fun q => h (Or.inr (Nat.le_trans hN q)))
theorem jin_lt {i : Int32} {n : Nat} (h : ¬ (i < 0 ∨ n ≤ i.toNatClampNeg)) : i.toNatClampNeg < n := Nat.not_le.mp (fun q => h (Or.inr q))
theorem JW.ldI0 (X : jCx p c cc nL s m args own G meth) {r : Option Nat} {i v : Int32} (hv : aI σ r 0 i = some v) (hdg : decode cc pc = .ok (.iaload, 1))
    (kk : JW p l e R s m args below meth c G σ0 Q σ (F0 m (pc + 1) ls (.int v :: rest))) : JW p l e R s m args below meth c G σ0 Q σ (F0 m pc ls (.int i :: va_rf r :: rest)) := by
  intro h0 H locs hi
  obtain ⟨a, n, f, rfl, ha, hin, rfl⟩ := aI_some hv
  obtain ⟨cell, h1, h2, h3, h4, -, h5⟩ := jIn_arr X.2.1 hi ha
  exact W.iald X.1.1 X.1.2.1 h1 (h3 (by decide)) h2 (jin_sz hin h4) (h5 _ (jin_lt hin)) rfl rfl hdg (kk h0 H locs hi)
theorem JW.ldI1 (X : jCx p c cc nL s m args own G meth) {r : Option Nat} {i v : Int32} (hv : aI σ r 1 i = some v) (hdg : decode cc pc = .ok (.baload, 1))
    (kk : JW p l e R s m args below meth c G σ0 Q σ (F0 m (pc + 1) ls (.int v :: rest))) : JW p l e R s m args below meth c G σ0 Q σ (F0 m pc ls (.int i :: va_rf r :: rest)) := by
  intro h0 H locs hi
  obtain ⟨a, n, f, rfl, ha, hin, rfl⟩ := aI_some hv
  obtain ⟨cell, h1, h2, h3, h4, -, h5⟩ := jIn_arr X.2.1 hi ha
  exact W.bald X.1.1 X.1.2.1 h1 (h3 (by decide)) h2 (jin_sz hin h4) (h5 _ (jin_lt hin)) rfl rfl hdg (kk h0 H locs hi)
theorem JW.ldI2 (X : jCx p c cc nL s m args own G meth) {r : Option Nat} {i v : Int32} (hv : aI σ r 2 i = some v) (hdg : decode cc pc = .ok (.baload, 1))
    (kk : JW p l e R s m args below meth c G σ0 Q σ (F0 m (pc + 1) ls (.int v :: rest))) : JW p l e R s m args below meth c G σ0 Q σ (F0 m pc ls (.int i :: va_rf r :: rest)) := by
  intro h0 H locs hi
  obtain ⟨a, n, f, rfl, ha, hin, rfl⟩ := aI_some hv
  obtain ⟨cell, h1, h2, h3, h4, -, h5⟩ := jIn_arr X.2.1 hi ha
  exact W.zald X.1.1 X.1.2.1 h1 (h3 (by decide)) h2 (jin_sz hin h4) (h5 _ (jin_lt hin)) rfl rfl hdg (kk h0 H locs hi)
theorem JW.ldJ (X : jCx p c cc nL s m args own G meth) {r : Option Nat} {i : Int32} {v : Int64} (hv : aJ σ r i = some v) (hdg : decode cc pc = .ok (.laload, 1))
    (kk : JW p l e R s m args below meth c G σ0 Q σ (F0 m (pc + 1) ls (.long v :: rest))) : JW p l e R s m args below meth c G σ0 Q σ (F0 m pc ls (.int i :: va_rf r :: rest)) := by
  intro h0 H locs hi
  unfold aJ at hv
  split at hv
  · next n f hx =>
    obtain ⟨a, rfl, ha⟩ := jar_some hx
    split at hv
    · next hin =>
      cases hv
      obtain ⟨cell, h1, h2, h3, h4, -, h5⟩ := jIn_arr X.2.1 hi ha
      exact W.lald X.1.1 X.1.2.1 h1 h3 h2 (jin_sz hin h4) (h5 _ (jin_lt hin)) rfl rfl hdg (kk h0 H locs hi)
    · cases hv
  · cases hv
theorem JW.ldR (X : jCx p c cc nL s m args own G meth) {r v : Option Nat} {i : Int32} (hv : aR σ r i = some v) (hdg : decode cc pc = .ok (.aaload, 1))
    (kk : JW p l e R s m args below meth c G σ0 Q σ (F0 m (pc + 1) ls (va_rf v :: rest))) : JW p l e R s m args below meth c G σ0 Q σ (F0 m pc ls (.int i :: va_rf r :: rest)) := by
  intro h0 H locs hi
  unfold aR at hv
  split at hv
  · next n f hx =>
    obtain ⟨a, rfl, ha⟩ := jar_some hx
    split at hv
    · next hin =>
      cases hv
      obtain ⟨cell, h1, h2, h3, h4, -, h5⟩ := jIn_arr X.2.1 hi ha
      exact W.aald (v := va_rf (f i.toNatClampNeg)) X.1.1 X.1.2.1 h1 h3 rfl h2 (jin_sz hin h4) (h5 _ (jin_lt hin)) rfl rfl hdg (kk h0 H locs hi)
    · cases hv
  · cases hv
theorem JW.len (X : jCx p c cc nL s m args own G meth) {r : Option Nat} {v : Int32} (hv : aLen σ r = some v) (hdg : decode cc pc = .ok (.arraylength, 1))
    (kk : JW p l e R s m args below meth c G σ0 Q σ (F0 m (pc + 1) ls (.int v :: rest))) (hkd : ∀ k n f, jar σ r = some (.inl (k, n, f)) → k ≤ 2) : JW p l e R s m args below meth c G σ0 Q σ (F0 m pc ls (va_rf r :: rest)) := by
  intro h0 H locs hi
  unfold aLen at hv
  split at hv
  · next k n f hx =>
    cases hv
    obtain ⟨a, rfl, ha⟩ := jar_some hx
    obtain ⟨cell, h1, h2, h3, h4, h5, -⟩ := jIn_arr X.2.1 hi ha
    exact W.alen X.1.1 X.1.2.1 h1 (h3 (hkd k n f hx)) h5 rfl rfl hdg (kk h0 H locs hi)
  · next n f hx =>
    cases hv
    obtain ⟨a, rfl, ha⟩ := jar_some hx
    obtain ⟨cell, h1, h2, h3, h4, h5, -⟩ := jIn_arr X.2.1 hi ha
    exact W.alen X.1.1 X.1.2.1 h1 h3 h5 rfl rfl hdg (kk h0 H locs hi)
  · next n f hx =>
    cases hv
    obtain ⟨a, rfl, ha⟩ := jar_some hx
    obtain ⟨cell, h1, h2, h3, h4, h5, -⟩ := jIn_arr X.2.1 hi ha
    exact W.alen X.1.1 X.1.2.1 h1 h3 h5 rfl rfl hdg (kk h0 H locs hi)
  · cases hv
theorem sI_some {r : Option Nat} {kd : Nat} {i x : Int32} (h : sI G σ r kd i x = some σ2) : ∃ (a n : Nat) (f : Nat → Int32), r = some a ∧ σ.1 a = some (jI kd n f) ∧ ¬ (i < 0 ∨ n ≤ i.toNatClampNeg) ∧ G.2.2.1 ≤ a ∧ σ2 = jset σ a (jI kd n (upd f i.toNatClampNeg (jnar kd x))) := by
  unfold sI at h
  split at h
  · cases h
  · split at h
    · next k n f hx =>
      split at h
      · next hc =>
        obtain ⟨rfl, h1, h2⟩ := hc
        cases h
        exact ⟨_, _, _, rfl, hx, h1, h2, rfl⟩
      · cases h
    · cases h
theorem sI_le {r : Option Nat} {kd : Nat} {i x : Int32} (h : sI G σ r kd i x = some σ2) : jLe σ σ2 := by
  obtain ⟨a, n, f, -, -, -, -, rfl⟩ := sI_some h
  exact jset_le
theorem JW.stI0 (X : jCx p c cc nL s m args own G meth) {r : Option Nat} {i x : Int32} (hv : sI G σ r 0 i x = some σ2) (hdg : decode cc pc = .ok (.iastore, 1))
    (kk : JW p l e R s m args below meth c G σ0 Q σ2 (F0 m (pc + 1) ls rest)) : JW p l e R s m args below meth c G σ0 Q σ (F0 m pc ls (.int x :: .int i :: va_rf r :: rest)) := by
  intro h0 H locs hi
  obtain ⟨a, n, f, rfl, ha, hin, han, rfl⟩ := sI_some hv
  have hat : H[a]? = some (arrV (G.2.1 0) n (fun q => .int (f q))) := jIn_own hi ha han
  refine W.iast X.1.1 X.1.2.1 hat ((X.2.1.1.2 0 (G.2.1 0, .int) rfl).1 n _) (fun q => by cases q) (by rw [arrV_size]; exact hin) rfl rfl hdg fun H1 e1 z oq => ?_
  rw [jnar_store rfl] at e1
  exact kk (h0.tr jset_le) H1 _ (jInv.set hi ha han e1 z oq (fun q hq => by rw [List.mem_singleton.mp hq]))
theorem JW.stI1 (X : jCx p c cc nL s m args own G meth) {r : Option Nat} {i x : Int32} (hv : sI G σ r 1 i x = some σ2) (hdg : decode cc pc = .ok (.bastore, 1))
    (kk : JW p l e R s m args below meth c G σ0 Q σ2 (F0 m (pc + 1) ls rest)) : JW p l e R s m args below meth c G σ0 Q σ (F0 m pc ls (.int x :: .int i :: va_rf r :: rest)) := by
  intro h0 H locs hi
  obtain ⟨a, n, f, rfl, ha, hin, han, rfl⟩ := sI_some hv
  have hat : H[a]? = some (arrV (G.2.1 1) n (fun q => .int (f q))) := jIn_own hi ha han
  refine W.bast X.1.1 X.1.2.1 hat ((X.2.1.1.2 1 (G.2.1 1, .byte) rfl).1 n _) (fun q => by cases q) (by rw [arrV_size]; exact hin) rfl rfl hdg fun H1 e1 z oq => ?_
  rw [jnar_store (v := narrow .byte (.int x)) (x' := jnar 1 x) rfl] at e1
  exact kk (h0.tr jset_le) H1 _ (jInv.set hi ha han e1 z oq (fun q hq => by rw [List.mem_singleton.mp hq]))
theorem JW.stI2 (X : jCx p c cc nL s m args own G meth) {r : Option Nat} {i x : Int32} (hv : sI G σ r 2 i x = some σ2) (hdg : decode cc pc = .ok (.bastore, 1))
    (kk : JW p l e R s m args below meth c G σ0 Q σ2 (F0 m (pc + 1) ls rest)) : JW p l e R s m args below meth c G σ0 Q σ (F0 m pc ls (.int x :: .int i :: va_rf r :: rest)) := by
  intro h0 H locs hi
  obtain ⟨a, n, f, rfl, ha, hin, han, rfl⟩ := sI_some hv
  have hat : H[a]? = some (arrV (G.2.1 2) n (fun q => .int (f q))) := jIn_own hi ha han
  refine W.zast X.1.1 X.1.2.1 hat ((X.2.1.1.2 2 (G.2.1 2, .boolean) rfl).1 n _) (fun q => by cases q) (by rw [arrV_size]; exact hin) rfl rfl hdg fun H1 e1 z oq => ?_
  rw [jnar_store (v := narrow .boolean (.int x)) (x' := jnar 2 x) rfl] at e1
  exact kk (h0.tr jset_le) H1 _ (jInv.set hi ha han e1 z oq (fun q hq => by rw [List.mem_singleton.mp hq]))
theorem sJ_some {r : Option Nat} {i : Int32} {x : Int64} (h : sJ G σ r i x = some σ2) : ∃ (a n : Nat) (f : Nat → Int64), r = some a ∧ σ.1 a = some (jL n f) ∧ ¬ (i < 0 ∨ n ≤ i.toNatClampNeg) ∧ G.2.2.1 ≤ a ∧ σ2 = jset σ a (jL n (vp_updL f i.toNatClampNeg x)) := by
  unfold sJ at h
  split at h
  · cases h
  · split at h
    · next n f hx =>
      split at h
      · next hc =>
        cases h
        exact ⟨_, _, _, rfl, hx, hc.1, hc.2, rfl⟩
      · cases h
    · cases h
theorem JW.stJ (X : jCx p c cc nL s m args own G meth) {r : Option Nat} {i : Int32} {x : Int64} (hv : sJ G σ r i x = some σ2) (hdg : decode cc pc = .ok (.lastore, 1))
    (kk : JW p l e R s m args below meth c G σ0 Q σ2 (F0 m (pc + 1) ls rest)) : JW p l e R s m args below meth c G σ0 Q σ (F0 m pc ls (.long x :: .int i :: va_rf r :: rest)) := by
  intro h0 H locs hi
  obtain ⟨a, n, f, rfl, ha, hin, han, rfl⟩ := sJ_some hv
  have hat : H[a]? = some (arrV (G.2.1 3) n (fun q => .long (f q))) := jIn_own hi ha han
  refine W.last X.1.1 X.1.2.1 hat ((X.2.1.1.2 3 (G.2.1 3, .long) rfl).1 n _) (fun q => by cases q) (by rw [arrV_size]; exact hin) rfl rfl hdg fun H1 e1 z oq => ?_
  have e2 : H1[a]? = some (arrV (G.2.1 3) n (fun q => .long (vp_updL f i.toNatClampNeg x q))) := by
    rw [e1, arrV_store]
    congr 2
    funext q
    by_cases hq : q = i.toNatClampNeg
    · subst hq; simp [updV, vp_updL]
    · simp [updV, vp_updL, hq]
  exact kk (h0.tr jset_le) H1 _ (jInv.set (e' := .inr (.inr (.inl (n, vp_updL f i.toNatClampNeg x)))) hi ha han e2 z oq (fun q hq => by rw [List.mem_singleton.mp hq]))
/-- a cell's class: objects, and the coarse cells -/
theorem jIn_cls {H : Heap} {locs : List Loc} {a ci : Nat} {x : jX} {q : vw_C} (hG : jGl G s) (hi : jInv G s σ H locs) (ha : σ.1 a = some x) (hx : jcls x = some ci) (hc : jCl[ci]? = some q) : ∃ cell : Cell, H[a]? = some cell ∧ cell.vm.isStatics = false ∧ s.vm.findClass q.1 = some cell.cls := by
  obtain ⟨⟨φ, ws, ⟨ow, gh, hrel⟩, hφ, hP, hD⟩, hS, hz, hn⟩ := hi
  have key : ∀ fs : List Value, φ a = some (.inl (ci, fs)) → ∃ cell : Cell, H[a]? = some cell ∧ cell.vm.isStatics = false ∧ s.vm.findClass q.1 = some cell.cls := by
    intro fs hφa
    rcases hφ a _ hφa with ⟨-, hw⟩ | ⟨-, r', hr', hO, -⟩
    · obtain ⟨q0, hq0⟩ := List.getElem?_of_mem hw
      exact va_recv hG.1 hP hc hq0
    · cases hc.symm.trans hr'
      obtain ⟨cell, h1, h2, h3, -⟩ := hO.kept hS.2.1
      exact ⟨cell, h1, h2, h3⟩
  have h7 := hrel a x ha
  match x, hx, h7 with
  | .inl (.inl (c9, fs)), hx, h7 =>
    cases hx
    exact key fs h7.1
  | .inl (.inr _), hx, _ => cases hx
  | .inr (0, r1), hx, h7 =>
    cases hx
    obtain ⟨-, ps, h5, mc, arr, f, rfl, -⟩ := h7
    exact key _ (h5 _ List.mem_cons_self).1
  | .inr (1, r1), hx, h7 =>
    cases hx
    obtain ⟨-, ps, h5, -, -, -, rfl⟩ := h7
    exact key _ (h5 _ List.mem_cons_self).1
  | .inr (2, r1), hx, h7 =>
    cases hx
    obtain ⟨-, ps, h5, arr, hd, f, rfl, -⟩ := h7
    exact key _ (h5 _ List.mem_cons_self).1
  | .inr (3, r1), hx, h7 =>
    cases hx
    obtain ⟨-, ps, h5, arr, f, ml, rfl, -⟩ := h7
    exact key _ (h5 _ List.mem_cons_self).1
  | .inr (4, r1), hx, h7 =>
    cases hx
    obtain ⟨-, ps, h5, arr, f, hs9, hz9, rfl, -⟩ := h7
    exact key _ (h5 _ List.mem_cons_self).1
  | .inr (5, [some b], [i], r1), hx, h7 =>
    cases hx
    obtain ⟨-, ps, h5, lr, rfl, -⟩ := h7
    exact key _ (h5 _ List.mem_cons_self).1
  | .inr (5, [], r1), hx, h7 => exact (show False from (by obtain ⟨-, ps, h5, h4⟩ := h7; exact h4)).elim
  | .inr (5, [none], r1), hx, h7 => exact (show False from (by obtain ⟨-, ps, h5, h4⟩ := h7; exact h4)).elim
  | .inr (5, _ :: _ :: _, r1), hx, h7 => exact (show False from (by obtain ⟨-, ps, h5, h4⟩ := h7; simpa [jSh] using h4)).elim
  | .inr (5, [some b], [], r1), hx, h7 => exact (show False from (by obtain ⟨-, ps, h5, h4⟩ := h7; exact h4)).elim
  | .inr (5, [some b], _ :: _ :: _, r1), hx, h7 => exact (show False from (by obtain ⟨-, ps, h5, h4⟩ := h7; exact h4)).elim
  | .inr (n + 6, r1), hx, h7 => exact (show False from (by obtain ⟨-, ps, h5, h4⟩ := h7; exact h4)).elim
end JR3
