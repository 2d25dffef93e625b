/-! the reference's asks of String constants -/
set_option maxRecDepth 100000
section KD
variable {p : Program} {l : Launch} {e : Env} {R : Room} {s : State} {m : MethodId} {args : Array Value} {below : List Frame} {meth : Method} {c : Code} {G : jG} {σ0 σ : jH} {Q : State → Prop}
variable {cc : ByteArray} {nL : Nat} {own : String} {pc : Nat} {ls : Array Slot} {rest : List Value} {τ : Type} {fin : τ → jH} {t : τ} {mo : Nat} {A : Nat → Nat} {M : jM}
theorem mH_str (hm : mOK G mo A) (hs : jKS G σ) {i : Nat} (hi : i < 46) : ∃ a, G.2.2.2 i = some a ∧ rc (mH mo A σ M) (some a) 21 = some a ∧ sLen (mH mo A σ M) a = some (kLen i) ∧ ∀ k, sChr (mH mo A σ M) a k = kChr i k := by
  obtain ⟨a, h1, h2, h3⟩ := hs i hi
  have h4 : (mH mo A σ M).1 a = some (.inr (4, [], kTx i, 0, 0)) := by rw [mH_const hm h2, h3]
  refine ⟨a, h1, ?_, ?_, fun k => ?_⟩
  · unfold rc
    simp only [h4]
    rfl
  · unfold sLen
    simp only [h4]
    rfl
  · unfold sChr
    simp only [h4]
    rfl
theorem J.stLen (X : jCx p c cc nL s m args own G meth) (hR : R.cells = (fin t).2.1 - σ0.2.1 ∧ R.slots = (fin t).2.2 - σ0.2.2) (hm : mOK G mo A) (hs : jKS G σ) {i index : Nat} (hi : i < 46) (cw : ∀ mc ms, CallW R s args own RJ9 index yJ9_length cJ9_length 1 (some .int) (ws_ yJ9_length cJ9_length 1 (some .int)) ({ frames := 6, cells := mc, slots := ms, locals := 200 } : Room) mc ms 0) (hsz : ls.size = nL) (hw : (rest.map fun v => v.category).sum ≤ 8) (hdg : decode cc pc = .ok (.invokevirtual index, 3)) {o : Option τ}
    (kk : J p l e R s m args below meth c G σ0 Q fin t o (mH mo A σ M) (F0 m (pc + 3) ls (.int (kLen i) :: rest))) : J p l e R s m args below meth c G σ0 Q fin t o (mH mo A σ M) (F0 m pc ls (va_rf (G.2.2.2 i) :: rest)) := by
  obtain ⟨a, h1, h2, h3, -⟩ := mH_str (M := M) hm hs hi
  rw [h1]
  exact J.cV (q := (RJ9, TJ9, 4)) (ci := 21) (As := []) (rest := rest) (s2 := .int (kLen i) :: rest) X hR (ct_J9_length l G (mH mo A σ M) a) (jrd_of h3) cw h2 rfl rfl hsz rfl rfl hw hdg kk
theorem J.stChr (X : jCx p c cc nL s m args own G meth) (hR : R.cells = (fin t).2.1 - σ0.2.1 ∧ R.slots = (fin t).2.2 - σ0.2.2) (hm : mOK G mo A) (hs : jKS G σ) {i index : Nat} (hi : i < 46) (cw : ∀ mc ms, CallW R s args own RJ9 index yJ9_charAt cJ9_charAt 2 (some .char) (ws_ yJ9_charAt cJ9_charAt 2 (some .char)) ({ frames := 6, cells := mc, slots := ms, locals := 200 } : Room) mc ms 1) (hsz : ls.size = nL) (hw : (rest.map fun v => v.category).sum ≤ 8) (hdg : decode cc pc = .ok (.invokevirtual index, 3)) {k : Int32} {f : Int32 → Option τ}
    (kk : ∀ v, kChr i k = some v → J p l e R s m args below meth c G σ0 Q fin t (f v) (mH mo A σ M) (F0 m (pc + 3) ls (.int v :: rest))) : J p l e R s m args below meth c G σ0 Q fin t ((kChr i k).bind f) (mH mo A σ M) (F0 m pc ls (.int k :: va_rf (G.2.2.2 i) :: rest)) := by
  refine J.bind fun v hv => ?_
  obtain ⟨a, h1, h2, -, h3⟩ := mH_str (M := M) hm hs hi
  rw [h1]
  exact J.cV (q := (RJ9, TJ9, 4)) (ci := 21) (As := [.int k]) (rest := rest) (s2 := .int v :: rest) X hR (ct_J9_charAt l G (mH mo A σ M) a k) (jrd_of ((h3 k).trans hv)) cw h2 rfl rfl hsz rfl rfl hw hdg (kk v hv)
end KD
