/-! aastore into rows of objects -/
set_option maxRecDepth 100000
theorem jok_cls : ∀ c ∈ ([1, 3, 4, 9, 10, 11, 12, 13, 14] : List Nat), ∃ q : vw_C, jCl[c]? = some q ∧ (q.1, "java/lang/Object") ∈ jNc :=
  List.forall_mem_cons.mpr ⟨⟨_, rfl, jnc27⟩, List.forall_mem_cons.mpr ⟨⟨_, rfl, jnc33⟩, List.forall_mem_cons.mpr ⟨⟨_, rfl, jnc38⟩, List.forall_mem_cons.mpr ⟨⟨_, rfl, jnc51⟩, List.forall_mem_cons.mpr ⟨⟨_, rfl, jnc52⟩, List.forall_mem_cons.mpr ⟨⟨_, rfl, jnc53⟩, List.forall_mem_cons.mpr ⟨⟨_, rfl, jnc54⟩, List.forall_mem_cons.mpr ⟨⟨_, rfl, jnc55⟩, List.forall_mem_cons.mpr ⟨⟨_, rfl, jnc56⟩, jnil_all⟩⟩⟩⟩⟩⟩⟩⟩⟩
theorem sR_some {G : jG} {σ σ2 : jH} {r x : Option Nat} {i : Int32} (h : sR G σ r i x = some σ2) : ∃ (a n : Nat) (f : Nat → Option Nat), r = some a ∧ σ.1 a = some (jR n f) ∧ ¬ (i < 0 ∨ n ≤ i.toNatClampNeg) ∧ G.2.2.1 ≤ a ∧ jok σ x = true ∧ σ2 = jset σ a (jR n (va_up f i.toNatClampNeg x)) := by
  unfold sR at h
  split at h
  · cases h
  · next a =>
    split at h
    · next n f ha =>
      split at h
      · next hc => exact ⟨a, n, f, rfl, ha, hc.1, hc.2.1, hc.2.2, (Option.some.inj h).symm⟩
      · cases h
    · cases h
theorem arrV_rf {cI : ClassId} {n j : Nat} {f : Nat → Option Nat} {x : Option Nat} : (arrV cI n (fun q => va_rf (f q))).setSlot j (va_rf x) = arrV cI n (fun q => va_rf (va_up f j x q)) := by
  rw [arrV_store]
  congr 1
  funext q
  by_cases hq : q = j
  · subst hq; simp [updV, va_up]
  · simp [updV, va_up, hq]
section AS
variable {p : Program} {l : Launch} {e : Env} {R : Room} {s : State} {m : MethodId} {args : Array Value} {below : List Frame} {meth : Method} {c : Code} {G : jG} {σ0 σ σ2 : jH} {Q : State → Prop}
variable {cc : ByteArray} {nL : Nat} {own : String} {pc : Nat} {ls : Array Slot} {rest : List Value} {τ : Type} {fin : τ → jH} {t : τ}
theorem JW.stR (X : jCx p c cc nL s m args own G meth) {r x : Option Nat} {i : Int32} (hv : sR G σ r i x = some σ2) (hdg : decode cc pc = .ok (.aastore, 1))
    (kk : JW p l e R s m args below meth c G σ0 Q σ2 (F0 m (pc + 1) ls rest)) : JW p l e R s m args below meth c G σ0 Q σ (F0 m pc ls (va_rf x :: .int i :: va_rf r :: rest)) := by
  intro h0 H locs hi
  obtain ⟨a, n, f, rfl, ha, hin, han, hok, rfl⟩ := sR_some hv
  have hat : H[a]? = some (arrV (G.2.1 4) n (fun q => va_rf (f q))) := jIn_own hi ha han
  have hT4 := X.2.1.1.2 4 (G.2.1 4, .object "java/lang/Object") rfl
  cases x with
  | none =>
    refine va_WaastN (C := "java/lang/Object") X.1.1 X.1.2.1 hat (hT4.1 n _) (fun q => by cases q) (by rw [arrV_size]; exact hin) rfl rfl hdg fun H1 e1 z oq => ?_
    have e2 := e1.trans (congrArg some (arrV_rf (x := none)))
    exact kk (h0.tr jset_le) H1 _ (jInv.set hi ha han e2 z oq (fun q hq => by rw [List.mem_singleton.mp hq]))
  | some v =>
    obtain ⟨y, hy, ci, hci, hmem⟩ : ∃ y, σ.1 v = some y ∧ ∃ ci, jcls y = some ci ∧ ci ∈ ([1, 3, 4, 9, 10, 11, 12, 13, 14] : List Nat) := by
      unfold jok at hok
      dsimp only at hok
      split at hok
      · next y hy =>
        split at hok
        · next ci hci => exact ⟨y, hy, ci, hci, by simpa using hok⟩
        · cases hok
      · cases hok
    obtain ⟨q, hq, hca⟩ := jok_cls ci hmem
    obtain ⟨cellV, g1, g2, g3⟩ := jIn_cls X.2.1 hi hy hci hq
    obtain ⟨kA, comp, k1, k2, k3, -⟩ := hT4.2
    obtain ⟨kE, hkE, -⟩ := Vm.findClass_spec k3
    obtain ⟨c0, t1, f1, f2, f3⟩ := Cond.castable_spec (va_Nw.use (A := args) rfl (X.2.1.2.2.2.1 _ hca))
    cases g3.symm.trans f1
    cases k3.symm.trans f2
    obtain ⟨kC, hkC, -⟩ := Vm.findClass_spec g3
    have hlt : i.toNatClampNeg < n := Nat.not_le.mp fun q => hin (Or.inr q)
    refine W.aast X.1.1 X.1.2.1 hat (fun q h => by cases h) (fun h => by cases h) k1 k2 rfl hkE ⟨fun q => hin (Or.inl q), by rw [arrV_size]; exact hlt⟩ g1 (fun q h => by rw [h] at g2; cases g2) hkC f3 rfl rfl hdg fun H1 e1 z oq => ?_
    have e2 := e1.trans (congrArg some (arrV_rf (x := some v)))
    exact kk (h0.tr jset_le) H1 _ (jInv.set hi ha han e2 z oq (fun q hq => by rw [List.mem_singleton.mp hq]))
theorem J.sR' (X : jCx p c cc nL s m args own G meth) {r x : Option Nat} {i : Int32} (hdg : decode cc pc = .ok (.aastore, 1)) {f : jH → Option τ}
    (kk : ∀ σ2, sR G σ r i x = some σ2 → J p l e R s m args below meth c G σ0 Q fin t (f σ2) σ2 (F0 m (pc + 1) ls rest)) : J p l e R s m args below meth c G σ0 Q fin t ((sR G σ r i x).bind f) σ (F0 m pc ls (va_rf x :: .int i :: va_rf r :: rest)) :=
  J.bind fun σ2 h => J.up (by obtain ⟨a, n, f, -, -, -, -, -, rfl⟩ := sR_some h; exact jset_le) (JW.stR X h hdg) (kk σ2 h)
end AS
