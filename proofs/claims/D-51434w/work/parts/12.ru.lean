/-! rows of J: fields, arrays, new cells -/
set_option maxRecDepth 100000
theorem jap_slot {args : Array Value} {s : State} {C O1 f1 d1 O2 f2 d2 : String} (hl1 : (Cond.laysFinal C O1 f1 d1).before args s = true) (hl2 : (Cond.laysFinal C O2 f2 d2).before args s = true) {cf1 fi1 cf2 fi2 : Nat} {kf1 kf2 : Class} {fd1 fd2 : Field} (hi1 : s.fieldFound? O1 f1 d1 = some (cf1, kf1, fi1, fd1)) (hi2 : s.fieldFound? O2 f2 d2 = some (cf2, kf2, fi2, fd2)) (hne : O1 ≠ O2) : fd1.slot ≠ fd2.slot := by
  obtain ⟨c, k, a1, b1, e1, g1, r1, r2, r3, -, -, -, r4, -, x1, r5, r6, -, -⟩ := Cond.laysFinal_spec hl1
  obtain ⟨c2, k2, a2, b2, e2, g2, q1, q2, q3, -, -, -, q4, -, x2, q5, q6, -, -⟩ := Cond.laysFinal_spec hl2
  cases hi1.symm.trans r3
  cases hi2.symm.trans q3
  cases r1.symm.trans q1
  intro hs
  rw [hs] at r5
  cases r5.symm.trans q5
  obtain ⟨y1, z1, n1⟩ := Vm.findClass_spec r4
  obtain ⟨y2, z2, n2⟩ := Vm.findClass_spec q4
  have w1 := (State.fieldFound?_spec hi1).1
  have w2 := (State.fieldFound?_spec hi2).1
  cases z1.symm.trans w1
  cases z2.symm.trans w2
  exact hne (n1.symm.trans (r6.symm.trans (q6.trans n2)))
section JR2
variable {p : Program} {l : Launch} {e : Env} {R : Room} {s : State} {m : MethodId} {args : Array Value} {below : List Frame} {meth : Method} {c : Code} {G : jG} {σ0 σ σ2 : jH} {Q : State → Prop}
variable {cc : ByteArray} {nL : Nat} {own : String} {pc : Nat} {ls : Array Slot} {rest : List Value}
theorem jap_use {D : va_G} {cl : List vw_C} {tys : List (ClassId × FieldType)} {C : String} {T : u_T} {N ci : Nat} {Ts : List Cond} (hts : ∀ w ∈ Ts, w.before args s = true) (hin : ∀ w ∈ u_ws C T N, w ∈ Ts) (ty : Nat → FieldType) (hty : ∀ k, k < N → parseFieldDescriptor (T k).2.2.1 = some (ty k)) (hap : jap T N) (hK : va_K D cl tys s) (hc : cl[ci]? = some (C, T, N)) : ∀ x y, x < N → y < N → x ≠ y → (D.2 ci) x ≠ (D.2 ci) y := by
  intro x y hx hy hne
  obtain ⟨hS, -⟩ := hK.1 ci _ hc
  obtain ⟨_, _, _, fa, hia, ea⟩ := hS x hx
  obtain ⟨_, _, _, fb, hib, eb⟩ := hS y hy
  rw [← ea, ← eb]
  rcases hap x hx y hy hne with h | ⟨h, h1, h2⟩
  · refine u_apart (u_lays hts hin hx) (u_lays hts hin hy) hia hib ?_
    rw [(State.fieldFound?_type hia (hty x hx)).1, (State.fieldFound?_type hib (hty y hy)).1]
    exact h
  · have w1 := hts _ (hin _ (u_in_lay hx))
    have w2 := hts _ (hin _ (u_in_lay hy))
    unfold u_lay at w1 w2
    rw [if_pos h1] at w1
    rw [if_pos h2] at w2
    exact jap_slot w1 w2 hia hib h
theorem JW.get (X : jCx p c cc nL s m args own G meth) {ci index k N : Nat} {C ref : String} {T : u_T} {r : Option Nat} {v : Value} (hin : ∀ w ∈ u_ws C T N, w ∈ lw_all) (hc : jCl[ci]? = some (C, T, N)) (hk : k < N) (hl : Cond.fieldLink own index ref (T k).2.1 (T k).2.2.1 ∈ lw_all) (hsame : ∀ x, s.fieldFound? (T k).1 (T k).2.1 (T k).2.2.1 = some x → s.fieldFound? ref (T k).2.1 (T k).2.2.1 = some x) (hv : gV σ r ci k = some v) (hdg : decode cc pc = .ok (.getfield index, 3))
    (kk : JW p l e R s m args below meth c G σ0 Q σ (F0 m (pc + 3) ls (v :: rest))) : JW p l e R s m args below meth c G σ0 Q σ (F0 m pc ls (va_rf r :: rest)) := by
  intro h0 H locs hi
  obtain ⟨a, fs, rfl, ha, hfs⟩ := gV_some hv
  obtain ⟨⟨hx, hb, hml, hown, hts⟩, hG, -⟩ := X
  have kk := kk h0 H locs hi
  obtain ⟨⟨φ, ws, ⟨ow, gh, hrel⟩, hφ, hP, hD⟩, hS, hz, hn⟩ := hi
  have hφa : φ a = some (.inl (ci, fs)) := (hrel a _ ha).1
  rcases hφ a _ hφa with ⟨-, hw⟩ | ⟨-, r', hr', -, hF⟩
  · obtain ⟨q0, hq0⟩ := List.getElem?_of_mem hw
    exact va_get hx hb hts hin hown hG.1 hP q0 hq0 hc k hk (hts _ hl) hsame hfs hdg kk
  · cases hc.symm.trans hr'
    refine vk_getf hx hb (hF k hk) hS hown (hts _ hl) hsame hdg ?_
    have e1 : vp_V fs k = v := by simp [vp_V, hfs]
    rw [e1]
    exact kk
theorem JW.getN (X : jCx p c cc nL s m args own G meth) {ci index k N : Nat} {C ref host : String} {T : u_T} {r : Option Nat} {v : Value} (hin : ∀ w ∈ u_ws C T N, w ∈ lw_all) (hc : jCl[ci]? = some (C, T, N)) (hk : k < N) (hl : (own, index, ref, (T k).2.1, (T k).2.2.1, host) ∈ jNf) (hsame : ∀ x, s.fieldFound? (T k).1 (T k).2.1 (T k).2.2.1 = some x → s.fieldFound? ref (T k).2.1 (T k).2.2.1 = some x) (hv : gV σ r ci k = some v) (hdg : decode cc pc = .ok (.getfield index, 3))
    (kk : JW p l e R s m args below meth c G σ0 Q σ (F0 m (pc + 3) ls (v :: rest))) : JW p l e R s m args below meth c G σ0 Q σ (F0 m pc ls (va_rf r :: rest)) := by
  intro h0 H locs hi
  obtain ⟨a, fs, rfl, ha, hfs⟩ := gV_some hv
  obtain ⟨⟨hx, hb, hml, hown, hts⟩, hG, -⟩ := X
  have kk := kk h0 H locs hi
  obtain ⟨⟨φ, ws, ⟨ow, gh, hrel⟩, hφ, hP, hD⟩, hS, hz, hn⟩ := hi
  have hφa : φ a = some (.inl (ci, fs)) := (hrel a _ ha).1
  have hlink := va_Nw.use (A := args) rfl (hG.2.1 _ hl)
  rcases hφ a _ hφa with ⟨-, hw⟩ | ⟨-, r', hr', -, hF⟩
  · obtain ⟨q0, hq0⟩ := List.getElem?_of_mem hw
    exact va_getN hx hb hts hin hown hG.1 hP q0 hq0 hc k hk hlink hsame hfs hdg kk
  · cases hc.symm.trans hr'
    obtain ⟨cf, k9, i9, f9, cell, h1, h2, h3, h4, h5, h6⟩ := (hF k hk).kept hS.2.1
    have e1 : vp_V fs k = v := by simp [vp_V, hfs]
    rw [e1] at h5
    exact va_Wgetf hx hb hown hlink (hsame _ h1) h2 h3 h4 (v := v) h5 rfl rfl hdg kk
/-- an object of ours: its cell, its slots -/
theorem jIn_obj {H : Heap} {locs : List Loc} {a ci : Nat} {fs : List Value} {q : vw_C} (hi : jInv G s σ H locs) (ha : σ.1 a = some (jO ci fs)) (han : G.2.2.1 ≤ a) (hc : jCl[ci]? = some q) : t_OB a (G.1.1 ci) q.2.2 (G.1.2 ci) H (vp_V fs) := by
  obtain ⟨⟨φ, ws, ⟨ow, gh, hrel⟩, hφ, hP, hD⟩, hS, hz, hn⟩ := hi
  have hφa : φ a = some (.inl (ci, fs)) := (hrel a _ ha).1
  rcases hφ a _ hφa with ⟨-, hw⟩ | ⟨hlt, -⟩
  · obtain ⟨q0, hq0⟩ := List.getElem?_of_mem hw
    obtain ⟨r, h1, h2⟩ := hP q0 _ hq0
    cases hc.symm.trans h1
    exact h2
  · exact absurd han (Nat.not_le.mpr hlt)
theorem jIn_put {H H' : Heap} {locs : List Loc} {a ci k N i : Nat} {fs : List Value} {C : String} {T : u_T} {v : Value} {cell : Cell} (hi : jInv G s σ H locs) (ha : σ.1 a = some (jO ci fs)) (han : G.2.2.1 ≤ a) (hc : jCl[ci]? = some (C, T, N)) (hk : k < N) (hlen : k < fs.length) (hap : ∀ x y, x < N → y < N → x ≠ y → (G.1.2 ci) x ≠ (G.1.2 ci) y)
    (q2 : cell.cls = G.1.1 ci) (q3 : cell.vm = .none) (q4 : ∀ j, j < N → cell.slots[G.1.2 ci j]? = some (vp_V fs j)) (e1 : H'[a]? = some (cell.setSlot (G.1.2 ci k) v)) (e2 : H'.size = H.size) (e3 : ∀ q : Nat, q ≠ a → H'[q]? = H[q]?) : jInv G s (jset σ a (jO ci (fs.set k v))) H' (locs ++ [⟨a, i⟩]) :=
  jInv.set hi ha han (e' := .inl (ci, fs.set k v)) ⟨_, hc, t_OB.to (V := updV (vp_V fs) k v) ⟨_, e1, q2, q3, t_set q4 hap hk v⟩ (fun j _ => vp_updV_set hlen v j)⟩ e2 e3 (fun q hq => by rw [List.mem_singleton.mp hq])
theorem JW.put (X : jCx p c cc nL s m args own G meth) {ci index k N : Nat} {C ref : String} {T : u_T} {r : Option Nat} {v : Value} (hin : ∀ w ∈ u_ws C T N, w ∈ lw_all) (hc : jCl[ci]? = some (C, T, N)) (ty0 : Nat → FieldType) (hty : ∀ k, k < N → parseFieldDescriptor (T k).2.2.1 = some (ty0 k)) (hap : jap T N) (hk : k < N) (hl : Cond.fieldLink own index ref (T k).2.1 (T k).2.2.1 ∈ lw_all) (hsame : ∀ x, s.fieldFound? (T k).1 (T k).2.1 (T k).2.2.1 = some x → s.fieldFound? ref (T k).2.1 (T k).2.2.1 = some x) (hfin : (T k).2.2.2 = false) (hn : narrow (ty0 k) v = v) (hfit : fits (ty0 k) v = true)
    (hp : pV G σ r ci k v = some σ2) (hdg : decode cc pc = .ok (.putfield index, 3)) (kk : JW p l e R s m args below meth c G σ0 Q σ2 (F0 m (pc + 3) ls rest)) : JW p l e R s m args below meth c G σ0 Q σ (F0 m pc ls (v :: va_rf r :: rest)) := by
  intro h0 H locs hi
  obtain ⟨a, fs, rfl, ha, hlen, han, rfl⟩ := pV_some hp
  obtain ⟨⟨hx, hb, hml, hown, hts⟩, hG, -⟩ := X
  have hsl := jap_use hts hin ty0 hty hap hG.1 hc
  obtain ⟨cell, q1, q2, q3, q4⟩ := jIn_obj hi ha han hc
  obtain ⟨hS9, hfc, kC, hkC, hkind⟩ := hG.1.1 ci _ hc
  obtain ⟨cf, kf, fi, f, hi9, hsl9⟩ := hS9 k hk
  have hlay := hts _ (hin _ (u_in_lay hk))
  unfold u_lay at hlay
  rw [if_neg (by rw [hfin]; decide)] at hlay
  have hst := (u_facts hfc hkC (u_lays hts hin hk) hi9).1
  have h6 := u_store hfc hkC hkind hlay hi9 (hty k hk) hn hfit
  refine W.putK hx hb (f := f) ⟨hown, hts _ hl, ⟨_, _, _, hsame _ hi9⟩, hst⟩ (by rw [q2]; exact h6) q1 q3 (by rw [hsl9]; exact k2_hasslot (q4 k hk)) rfl rfl hdg fun H' e1 e2 e3 => ?_
  rw [hsl9] at e1 ⊢
  exact kk (h0.tr jset_le) H' _ (jIn_put hi ha han hc hk hlen hsl q2 q3 q4 e1 e2 e3)
theorem JW.putF (X : jCx p c cc nL s m args own G meth) (hini : meth.name = "<init>") {ci index k N : Nat} {C ref : String} {T : u_T} {r : Option Nat} {v : Value} (hin : ∀ w ∈ u_ws C T N, w ∈ lw_all) (hc : jCl[ci]? = some (C, T, N)) (ty0 : Nat → FieldType) (hty : ∀ k, k < N → parseFieldDescriptor (T k).2.2.1 = some (ty0 k)) (hap : jap T N) (hk : k < N) (hl : Cond.fieldLink own index ref (T k).2.1 (T k).2.2.1 ∈ lw_all) (hsame : ∀ x, s.fieldFound? (T k).1 (T k).2.1 (T k).2.2.1 = some x → s.fieldFound? ref (T k).2.1 (T k).2.2.1 = some x) (hfin : (T k).2.2.2 = true) (hdecl : (T k).1 = own) (hn : narrow (ty0 k) v = v) (hfit : fits (ty0 k) v = true)
    (hp : pV G σ r ci k v = some σ2) (hdg : decode cc pc = .ok (.putfield index, 3)) (kk : JW p l e R s m args below meth c G σ0 Q σ2 (F0 m (pc + 3) ls rest)) : JW p l e R s m args below meth c G σ0 Q σ (F0 m pc ls (v :: va_rf r :: rest)) := by
  intro h0 H locs hi
  obtain ⟨a, fs, rfl, ha, hlen, han, rfl⟩ := pV_some hp
  obtain ⟨⟨hx, hb, hml, hown, hts⟩, hG, -⟩ := X
  have hsl := jap_use hts hin ty0 hty hap hG.1 hc
  obtain ⟨cell, q1, q2, q3, q4⟩ := jIn_obj hi ha han hc
  obtain ⟨hS9, hfc, kC, hkC, hkind⟩ := hG.1.1 ci _ hc
  obtain ⟨cf, kf, fi, f, hi9, hsl9⟩ := hS9 k hk
  have hlay := hts _ (hin _ (u_in_lay hk))
  unfold u_lay at hlay
  rw [if_pos hfin] at hlay
  have hst := (u_facts hfc hkC (u_lays hts hin hk) hi9).1
  have hcf : m.cls = cf := by
    obtain ⟨_, _, c', _, _, _, -, -, hf', -, -, -, hown2, -⟩ := Cond.laysFinal_spec hlay
    have e1 : c' = cf := by have := hi9.symm.trans hf'; simp at this; exact this.1.symm
    rw [hdecl] at hown2
    rw [← e1]; exact Option.some.inj (hown.symm.trans hown2)
  have h6 := u_fits hfc hkC hkind (Or.inr hlay) hi9 (hty k hk) hn hfit
  refine W.putFinK hx hb hown (hts _ hl) (hsame _ hi9) hst hcf hini (by rw [q2]; exact h6) q1 q3 (by rw [hsl9]; exact k2_hasslot (q4 k hk)) rfl rfl hdg fun H' e1 e2 e3 => ?_
  rw [hsl9] at e1 ⊢
  exact kk (h0.tr jset_le) H' _ (jIn_put hi ha han hc hk hlen hsl q2 q3 q4 e1 e2 e3)
theorem JW.putN (X : jCx p c cc nL s m args own G meth) {ci index k N : Nat} {C ref host : String} {T : u_T} {r : Option Nat} {v : Value} (hin : ∀ w ∈ u_ws C T N, w ∈ lw_all) (hc : jCl[ci]? = some (C, T, N)) (ty0 : Nat → FieldType) (hty : ∀ k, k < N → parseFieldDescriptor (T k).2.2.1 = some (ty0 k)) (hap : jap T N) (hk : k < N) (hl : (own, index, ref, (T k).2.1, (T k).2.2.1, host) ∈ jNf) (hsame : ∀ x, s.fieldFound? (T k).1 (T k).2.1 (T k).2.2.1 = some x → s.fieldFound? ref (T k).2.1 (T k).2.2.1 = some x) (hfin : (T k).2.2.2 = false) (hn : narrow (ty0 k) v = v) (hfit : fits (ty0 k) v = true)
    (hp : pV G σ r ci k v = some σ2) (hdg : decode cc pc = .ok (.putfield index, 3)) (kk : JW p l e R s m args below meth c G σ0 Q σ2 (F0 m (pc + 3) ls rest)) : JW p l e R s m args below meth c G σ0 Q σ (F0 m pc ls (v :: va_rf r :: rest)) := by
  intro h0 H locs hi
  obtain ⟨a, fs, rfl, ha, hlen, han, rfl⟩ := pV_some hp
  obtain ⟨⟨hx, hb, hml, hown, hts⟩, hG, -⟩ := X
  have hlink := va_Nw.use (A := args) rfl (hG.2.1 _ hl)
  have hsl := jap_use hts hin ty0 hty hap hG.1 hc
  obtain ⟨cell, q1, q2, q3, q4⟩ := jIn_obj hi ha han hc
  obtain ⟨hS9, hfc, kC, hkC, hkind⟩ := hG.1.1 ci _ hc
  obtain ⟨cf, kf, fi, f, hi9, hsl9⟩ := hS9 k hk
  have hlay := hts _ (hin _ (u_in_lay hk))
  unfold u_lay at hlay
  rw [if_neg (by rw [hfin]; decide)] at hlay
  have hst := (u_facts hfc hkC (u_lays hts hin hk) hi9).1
  have h6 := u_store hfc hkC hkind hlay hi9 (hty k hk) hn hfit
  refine va_WputK hx hb (f := f) hown hlink (hsame _ hi9) hst (by rw [q2]; exact h6) q1 q3 (by rw [hsl9]; exact k2_hasslot (q4 k hk)) rfl rfl hdg fun H' e1 e2 e3 => ?_
  rw [hsl9] at e1 ⊢
  exact kk (h0.tr jset_le) H' _ (jIn_put hi ha han hc hk hlen hsl q2 q3 q4 e1 e2 e3)
/-! arrays -/
theorem jar_some {r : Option Nat} {b : jB} (h : jar σ r = some b) : ∃ a, r = some a ∧ σ.1 a = some (.inl (.inr b)) := by
  unfold jar at h
  split at h
  · cases h
  · split at h
    · next hx => cases h; exact ⟨_, rfl, hx⟩
    · cases h
/-- an array's cell: of ours, or a constant's -/
theorem jIn_arr {H : Heap} {locs : List Loc} {a : Nat} {b : jB} (hG : jGl G s) (hi : jInv G s σ H locs) (ha : σ.1 a = some (.inl (.inr b))) : ∃ cell : Cell, H[a]? = some cell ∧ cell.vm ≠ .unknown ∧ (match b with
    | .inl (k, n, f) => (k ≤ 2 → s.isArrayOf cell (jty k)) ∧ n ≤ cell.slots.size ∧ cell.slots.size.toInt32 = Int32.ofNat n ∧ ∀ j, j < n → cell.slots[j]? = some (.int (f j))
    | .inr (.inl (n, f)) => s.isArrayOf cell .long ∧ n ≤ cell.slots.size ∧ cell.slots.size.toInt32 = Int32.ofNat n ∧ ∀ j, j < n → cell.slots[j]? = some (.long (f j))
    | .inr (.inr (n, f)) => s.isArrayOf cell (.object "java/lang/Object") ∧ n ≤ cell.slots.size ∧ cell.slots.size.toInt32 = Int32.ofNat n ∧ ∀ j, j < n → cell.slots[j]? = some (va_rf (f j))) := by
  obtain ⟨⟨φ, ws, ⟨ow, gh, hrel⟩, hφ, hP, hD⟩, hS, hz, hn⟩ := hi
  have hφa : φ a = some (.inr b) := (hrel a _ ha).1
  have key : ∀ {ty : FieldType} {N : Nat} {f : Nat → Value}, va_T ty a N f (jA G) s s.heap → ∃ cell : Cell, H[a]? = some cell ∧ cell.vm ≠ .unknown ∧ s.isArrayOf cell ty ∧ N ≤ cell.slots.size ∧ cell.slots.size.toInt32 = Int32.ofNat N ∧ ∀ j, j < N → cell.slots[j]? = some (f j) := by
    intro ty N f hT
    obtain ⟨cell, h1, h2, h3, h4, h5, h6, h7⟩ := hT.kept hS.2.1
    exact ⟨cell, h1, h3, h2, h4, h5, h6⟩
  rcases hφ a _ hφa with ⟨-, hw⟩ | ⟨-, hcat⟩
  · obtain ⟨q0, hq0⟩ := List.getElem?_of_mem hw
    have hat := hP q0 _ hq0
    match b, hat with
    | .inl (k, n, f), hat =>
      have h1 : H[a]? = some (vp_cell (G.2.1 k) (n, .inl f)) := hat
      rw [vp_cell_i] at h1
      refine ⟨_, h1, (fun q => by cases q), fun hk => ?_, by rw [arrV_size]; exact Nat.le_refl _, by rw [arrV_size], fun j hj => arrV_read _ _ hj⟩
      match k, hk with
      | 0, _ => exact (hG.1.2 0 (G.2.1 0, .int) rfl).1 n _
      | 1, _ => exact (hG.1.2 1 (G.2.1 1, .byte) rfl).1 n _
      | 2, _ => exact (hG.1.2 2 (G.2.1 2, .boolean) rfl).1 n _
    | .inr (.inl (n, f)), hat =>
      have h1 : H[a]? = some (arrV (G.2.1 3) n (fun j => .long (f j))) := hat
      exact ⟨_, h1, (fun q => by cases q), (hG.1.2 3 (G.2.1 3, .long) rfl).1 n _, by rw [arrV_size]; exact Nat.le_refl _, by rw [arrV_size], fun j hj => arrV_read _ _ hj⟩
    | .inr (.inr (n, f)), hat =>
      have h1 : H[a]? = some (vp_cell (G.2.1 4) (n, .inr (.inr (.inr (.inr f))))) := hat
      rw [vp_cell_q] at h1
      exact ⟨_, h1, (fun q => by cases q), (hG.1.2 4 (G.2.1 4, .object "java/lang/Object") rfl).1 n _, by rw [arrV_size]; exact Nat.le_refl _, by rw [arrV_size], fun j hj => arrV_read _ _ hj⟩
  · match b, hcat with
    | .inl (k, n, f), hcat =>
      obtain ⟨cell, h1, h2, h3, h4⟩ := key hcat.2
      exact ⟨cell, h1, h2, fun _ => h3, h4⟩
    | .inr (.inl (n, f)), hcat =>
      obtain ⟨cell, h1, h2, h3, h4⟩ := key hcat
      exact ⟨cell, h1, h2, h3, h4⟩
    | .inr (.inr (n, f)), hcat =>
      obtain ⟨cell, h1, h2, h3, h4⟩ := key hcat
      exact ⟨cell, h1, h2, h3, h4⟩
end JR2
