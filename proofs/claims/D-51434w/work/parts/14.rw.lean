/-! rows of J, by the shape of the function: fields, arrays, new cells, constants, calls, ends; a method's contract out of its walk -/
set_option maxRecDepth 100000
theorem rc_some {σ : jH} {r : Option Nat} {ci a : Nat} (h : rc σ r ci = some a) : r = some a ∧ ∃ x, σ.1 a = some x ∧ jcls x = some ci := by
  unfold rc at h
  split at h
  · cases h
  · split at h
    · next x hx =>
      split at h
      · next hc => cases h; exact ⟨rfl, x, hx, hc⟩
      · cases h
    · cases h
/-- a value of a reference's type -/
theorem va_rf_o {r : Option Nat} {ty : FieldType} (h : (∃ n, ty = .object n) ∨ ∃ t, ty = .array t) : narrow ty (va_rf r) = va_rf r ∧ fits ty (va_rf r) = true := by
  rcases h with ⟨n, rfl⟩ | ⟨t, rfl⟩ <;> cases r <;> exact ⟨rfl, rfl⟩
theorem va_rf_v (r : Option Nat) : va_rf r = .null ∨ ∃ a, va_rf r = .ref a := by
  cases r with
  | none => exact Or.inl rfl
  | some a => exact Or.inr ⟨a, rfl⟩
def jnr (ty : FieldType) (v : Int32) : Bool := match narrow ty (.int v) with
  | .int w => w == v
  | _ => false
theorem jnr_eq {ty : FieldType} {v : Int32} (h : jnr ty v = true) : narrow ty (.int v) = .int v := by
  unfold jnr at h
  split at h
  · next w hw => rw [hw, eq_of_beq h]
  · cases h
/-- an answer of a narrow type -/
def jbo {τ : Type} (ty : FieldType) (v : Int32) (o : Option τ) : Option τ := if jnr ty v = true then o else none
/-- a checked cast: null, or of one of the classes -/
def jck' (σ : jH) (r : Option Nat) (cs : List Nat) : Option Unit := match r with
  | none => some ()
  | some a => match σ.1 a with
    | some x => match jcls x with
      | some c => if cs.contains c = true then some () else none
      | none => none
    | none => none
def jRun (d : Nat) (p : Program) (l : Launch) (e : Env) (R : Room) (s : State) (m : MethodId) (args : Array Value) (below : List Frame) (meth : Method) (c : Code) (H : Heap) (locs : List Loc) (cells slots mc ms : Nat) (g : JFrame) (rest : List Value) (Qa : State → Outcome → State → Prop) (free : Addr → Prop) : Prop :=
  ∀ T : State, T.heap = H → Stand p l e R s m args below meth c T locs cells slots → ∃ (v : Option Value) (st₀ t T' : State) (L : List Loc), st₀.heap = H ∧ Stand p l e R s m args below meth c T' (locs ++ L) (cells + mc) (slots + ms) ∧ (∀ q ∈ L, free q.base) ∧ T'.heap = t.heap ∧ T'.vm = t.vm ∧ Qa st₀ (.returned v) t ∧
    Goes p e below T g T' { g with pc := g.pc + d, stack := v.toList ++ rest }
section JR4
variable {p : Program} {l : Launch} {e : Env} {R : Room} {s : State} {m : MethodId} {args : Array Value} {below : List Frame} {meth : Method} {c : Code} {G : jG} {σ0 σ : jH} {Q : State → Prop}
variable {cc : ByteArray} {nL : Nat} {own : String} {pc : Nat} {ls : Array Slot} {rest : List Value}
variable {τ : Type} {fin : τ → jH} {t : τ}
/-! fields -/
section FL
variable {ci index k N : Nat} {C ref host : String} {T : u_T} {r : Option Nat}
theorem J.getI (X : jCx p c cc nL s m args own G meth) (hin : ∀ w ∈ u_ws C T N, w ∈ lw_all) (hc : jCl[ci]? = some (C, T, N)) (hk : k < N) (hl : Cond.fieldLink own index ref (T k).2.1 (T k).2.2.1 ∈ lw_all) (hsame : ∀ x, s.fieldFound? (T k).1 (T k).2.1 (T k).2.2.1 = some x → s.fieldFound? ref (T k).2.1 (T k).2.2.1 = some x) (hdg : decode cc pc = .ok (.getfield index, 3)) {f : Int32 → Option τ}
    (kk : ∀ v, gI σ r ci k = some v → J p l e R s m args below meth c G σ0 Q fin t (f v) σ (F0 m (pc + 3) ls (.int v :: rest))) : J p l e R s m args below meth c G σ0 Q fin t ((gI σ r ci k).bind f) σ (F0 m pc ls (va_rf r :: rest)) :=
  J.bind fun v h => J.up jLe.rf (JW.get X hin hc hk hl hsame (gI_some h) hdg) (kk v h)
theorem J.getR (X : jCx p c cc nL s m args own G meth) (hin : ∀ w ∈ u_ws C T N, w ∈ lw_all) (hc : jCl[ci]? = some (C, T, N)) (hk : k < N) (hl : Cond.fieldLink own index ref (T k).2.1 (T k).2.2.1 ∈ lw_all) (hsame : ∀ x, s.fieldFound? (T k).1 (T k).2.1 (T k).2.2.1 = some x → s.fieldFound? ref (T k).2.1 (T k).2.2.1 = some x) (hdg : decode cc pc = .ok (.getfield index, 3)) {f : Option Nat → Option τ}
    (kk : ∀ v, gR σ r ci k = some v → J p l e R s m args below meth c G σ0 Q fin t (f v) σ (F0 m (pc + 3) ls (va_rf v :: rest))) : J p l e R s m args below meth c G σ0 Q fin t ((gR σ r ci k).bind f) σ (F0 m pc ls (va_rf r :: rest)) :=
  J.bind fun v h => J.up jLe.rf (JW.get X hin hc hk hl hsame (gR_some h) hdg) (kk v h)
theorem J.getIN (X : jCx p c cc nL s m args own G meth) (hin : ∀ w ∈ u_ws C T N, w ∈ lw_all) (hc : jCl[ci]? = some (C, T, N)) (hk : k < N) (hl : (own, index, ref, (T k).2.1, (T k).2.2.1, host) ∈ jNf) (hsame : ∀ x, s.fieldFound? (T k).1 (T k).2.1 (T k).2.2.1 = some x → s.fieldFound? ref (T k).2.1 (T k).2.2.1 = some x) (hdg : decode cc pc = .ok (.getfield index, 3)) {f : Int32 → Option τ}
    (kk : ∀ v, gI σ r ci k = some v → J p l e R s m args below meth c G σ0 Q fin t (f v) σ (F0 m (pc + 3) ls (.int v :: rest))) : J p l e R s m args below meth c G σ0 Q fin t ((gI σ r ci k).bind f) σ (F0 m pc ls (va_rf r :: rest)) :=
  J.bind fun v h => J.up jLe.rf (JW.getN X hin hc hk hl hsame (gI_some h) hdg) (kk v h)
theorem J.getRN (X : jCx p c cc nL s m args own G meth) (hin : ∀ w ∈ u_ws C T N, w ∈ lw_all) (hc : jCl[ci]? = some (C, T, N)) (hk : k < N) (hl : (own, index, ref, (T k).2.1, (T k).2.2.1, host) ∈ jNf) (hsame : ∀ x, s.fieldFound? (T k).1 (T k).2.1 (T k).2.2.1 = some x → s.fieldFound? ref (T k).2.1 (T k).2.2.1 = some x) (hdg : decode cc pc = .ok (.getfield index, 3)) {f : Option Nat → Option τ}
    (kk : ∀ v, gR σ r ci k = some v → J p l e R s m args below meth c G σ0 Q fin t (f v) σ (F0 m (pc + 3) ls (va_rf v :: rest))) : J p l e R s m args below meth c G σ0 Q fin t ((gR σ r ci k).bind f) σ (F0 m pc ls (va_rf r :: rest)) :=
  J.bind fun v h => J.up jLe.rf (JW.getN X hin hc hk hl hsame (gR_some h) hdg) (kk v h)
variable {ty0 : Nat → FieldType}
theorem J.putI (X : jCx p c cc nL s m args own G meth) (hin : ∀ w ∈ u_ws C T N, w ∈ lw_all) (hc : jCl[ci]? = some (C, T, N)) (hty : ∀ k, k < N → parseFieldDescriptor (T k).2.2.1 = some (ty0 k)) (hap : jap T N) (hk : k < N) (hl : Cond.fieldLink own index ref (T k).2.1 (T k).2.2.1 ∈ lw_all) (hsame : ∀ x, s.fieldFound? (T k).1 (T k).2.1 (T k).2.2.1 = some x → s.fieldFound? ref (T k).2.1 (T k).2.2.1 = some x) (hfin : (T k).2.2.2 = false) (ht : ty0 k = .int) (hdg : decode cc pc = .ok (.putfield index, 3)) {x : Int32} {f : jH → Option τ}
    (kk : ∀ σ2, pI G σ r ci k x = some σ2 → J p l e R s m args below meth c G σ0 Q fin t (f σ2) σ2 (F0 m (pc + 3) ls rest)) : J p l e R s m args below meth c G σ0 Q fin t ((pI G σ r ci k x).bind f) σ (F0 m pc ls (.int x :: va_rf r :: rest)) :=
  J.bind fun σ2 h => J.up (pV_le h) (JW.put X hin hc ty0 hty hap hk hl hsame hfin (by rw [ht]; rfl) (by rw [ht]; rfl) h hdg) (kk σ2 h)
theorem J.putR (X : jCx p c cc nL s m args own G meth) (hin : ∀ w ∈ u_ws C T N, w ∈ lw_all) (hc : jCl[ci]? = some (C, T, N)) (hty : ∀ k, k < N → parseFieldDescriptor (T k).2.2.1 = some (ty0 k)) (hap : jap T N) (hk : k < N) (hl : Cond.fieldLink own index ref (T k).2.1 (T k).2.2.1 ∈ lw_all) (hsame : ∀ x, s.fieldFound? (T k).1 (T k).2.1 (T k).2.2.1 = some x → s.fieldFound? ref (T k).2.1 (T k).2.2.1 = some x) (hfin : (T k).2.2.2 = false) (ht : (∃ n, ty0 k = .object n) ∨ ∃ t, ty0 k = .array t) (hdg : decode cc pc = .ok (.putfield index, 3)) {x : Option Nat} {f : jH → Option τ}
    (kk : ∀ σ2, pR G σ r ci k x = some σ2 → J p l e R s m args below meth c G σ0 Q fin t (f σ2) σ2 (F0 m (pc + 3) ls rest)) : J p l e R s m args below meth c G σ0 Q fin t ((pR G σ r ci k x).bind f) σ (F0 m pc ls (va_rf x :: va_rf r :: rest)) :=
  J.bind fun σ2 h => J.up (pV_le h) (JW.put X hin hc ty0 hty hap hk hl hsame hfin (va_rf_o ht).1 (va_rf_o ht).2 h hdg) (kk σ2 h)
theorem pB_some {x : Int32} {σ2 : jH} (h : pB G σ r ci k x = some σ2) : (x = 0 ∨ x = 1) ∧ pV G σ r ci k (.int x) = some σ2 := by
  unfold pB at h
  split at h
  · next hc => exact ⟨hc, h⟩
  · cases h
theorem nar_b {x : Int32} {ty : FieldType} (ht : ty = .boolean ∨ ty = .byte) (h : x = 0 ∨ x = 1) : narrow ty (.int x) = .int x ∧ fits ty (.int x) = true := by
  rcases ht with rfl | rfl <;> rcases h with rfl | rfl <;> exact ⟨by decide +kernel, by decide +kernel⟩
theorem J.putB (X : jCx p c cc nL s m args own G meth) (hin : ∀ w ∈ u_ws C T N, w ∈ lw_all) (hc : jCl[ci]? = some (C, T, N)) (hty : ∀ k, k < N → parseFieldDescriptor (T k).2.2.1 = some (ty0 k)) (hap : jap T N) (hk : k < N) (hl : Cond.fieldLink own index ref (T k).2.1 (T k).2.2.1 ∈ lw_all) (hsame : ∀ x, s.fieldFound? (T k).1 (T k).2.1 (T k).2.2.1 = some x → s.fieldFound? ref (T k).2.1 (T k).2.2.1 = some x) (hfin : (T k).2.2.2 = false) (ht : ty0 k = .boolean ∨ ty0 k = .byte) (hdg : decode cc pc = .ok (.putfield index, 3)) {x : Int32} {f : jH → Option τ}
    (kk : ∀ σ2, pB G σ r ci k x = some σ2 → J p l e R s m args below meth c G σ0 Q fin t (f σ2) σ2 (F0 m (pc + 3) ls rest)) : J p l e R s m args below meth c G σ0 Q fin t ((pB G σ r ci k x).bind f) σ (F0 m pc ls (.int x :: va_rf r :: rest)) :=
  J.bind fun σ2 h => J.up (pV_le (pB_some h).2) (JW.put X hin hc ty0 hty hap hk hl hsame hfin (nar_b ht (pB_some h).1).1 (nar_b ht (pB_some h).1).2 (pB_some h).2 hdg) (kk σ2 h)
theorem J.putIN (X : jCx p c cc nL s m args own G meth) (hin : ∀ w ∈ u_ws C T N, w ∈ lw_all) (hc : jCl[ci]? = some (C, T, N)) (hty : ∀ k, k < N → parseFieldDescriptor (T k).2.2.1 = some (ty0 k)) (hap : jap T N) (hk : k < N) (hl : (own, index, ref, (T k).2.1, (T k).2.2.1, host) ∈ jNf) (hsame : ∀ x, s.fieldFound? (T k).1 (T k).2.1 (T k).2.2.1 = some x → s.fieldFound? ref (T k).2.1 (T k).2.2.1 = some x) (hfin : (T k).2.2.2 = false) (ht : ty0 k = .int) (hdg : decode cc pc = .ok (.putfield index, 3)) {x : Int32} {f : jH → Option τ}
    (kk : ∀ σ2, pI G σ r ci k x = some σ2 → J p l e R s m args below meth c G σ0 Q fin t (f σ2) σ2 (F0 m (pc + 3) ls rest)) : J p l e R s m args below meth c G σ0 Q fin t ((pI G σ r ci k x).bind f) σ (F0 m pc ls (.int x :: va_rf r :: rest)) :=
  J.bind fun σ2 h => J.up (pV_le h) (JW.putN X hin hc ty0 hty hap hk hl hsame hfin (by rw [ht]; rfl) (by rw [ht]; rfl) h hdg) (kk σ2 h)
theorem J.putBN (X : jCx p c cc nL s m args own G meth) (hin : ∀ w ∈ u_ws C T N, w ∈ lw_all) (hc : jCl[ci]? = some (C, T, N)) (hty : ∀ k, k < N → parseFieldDescriptor (T k).2.2.1 = some (ty0 k)) (hap : jap T N) (hk : k < N) (hl : (own, index, ref, (T k).2.1, (T k).2.2.1, host) ∈ jNf) (hsame : ∀ x, s.fieldFound? (T k).1 (T k).2.1 (T k).2.2.1 = some x → s.fieldFound? ref (T k).2.1 (T k).2.2.1 = some x) (hfin : (T k).2.2.2 = false) (ht : ty0 k = .boolean ∨ ty0 k = .byte) (hdg : decode cc pc = .ok (.putfield index, 3)) {x : Int32} {f : jH → Option τ}
    (kk : ∀ σ2, pB G σ r ci k x = some σ2 → J p l e R s m args below meth c G σ0 Q fin t (f σ2) σ2 (F0 m (pc + 3) ls rest)) : J p l e R s m args below meth c G σ0 Q fin t ((pB G σ r ci k x).bind f) σ (F0 m pc ls (.int x :: va_rf r :: rest)) :=
  J.bind fun σ2 h => J.up (pV_le (pB_some h).2) (JW.putN X hin hc ty0 hty hap hk hl hsame hfin (nar_b ht (pB_some h).1).1 (nar_b ht (pB_some h).1).2 (pB_some h).2 hdg) (kk σ2 h)
theorem J.putIF (X : jCx p c cc nL s m args own G meth) (hini : meth.name = "<init>") (hin : ∀ w ∈ u_ws C T N, w ∈ lw_all) (hc : jCl[ci]? = some (C, T, N)) (hty : ∀ k, k < N → parseFieldDescriptor (T k).2.2.1 = some (ty0 k)) (hap : jap T N) (hk : k < N) (hl : Cond.fieldLink own index ref (T k).2.1 (T k).2.2.1 ∈ lw_all) (hsame : ∀ x, s.fieldFound? (T k).1 (T k).2.1 (T k).2.2.1 = some x → s.fieldFound? ref (T k).2.1 (T k).2.2.1 = some x) (hfin : (T k).2.2.2 = true) (hdecl : (T k).1 = own) (ht : ty0 k = .int) (hdg : decode cc pc = .ok (.putfield index, 3)) {x : Int32} {f : jH → Option τ}
    (kk : ∀ σ2, pI G σ r ci k x = some σ2 → J p l e R s m args below meth c G σ0 Q fin t (f σ2) σ2 (F0 m (pc + 3) ls rest)) : J p l e R s m args below meth c G σ0 Q fin t ((pI G σ r ci k x).bind f) σ (F0 m pc ls (.int x :: va_rf r :: rest)) :=
  J.bind fun σ2 h => J.up (pV_le h) (JW.putF X hini hin hc ty0 hty hap hk hl hsame hfin hdecl (by rw [ht]; rfl) (by rw [ht]; rfl) h hdg) (kk σ2 h)
theorem J.putBF (X : jCx p c cc nL s m args own G meth) (hini : meth.name = "<init>") (hin : ∀ w ∈ u_ws C T N, w ∈ lw_all) (hc : jCl[ci]? = some (C, T, N)) (hty : ∀ k, k < N → parseFieldDescriptor (T k).2.2.1 = some (ty0 k)) (hap : jap T N) (hk : k < N) (hl : Cond.fieldLink own index ref (T k).2.1 (T k).2.2.1 ∈ lw_all) (hsame : ∀ x, s.fieldFound? (T k).1 (T k).2.1 (T k).2.2.1 = some x → s.fieldFound? ref (T k).2.1 (T k).2.2.1 = some x) (hfin : (T k).2.2.2 = true) (hdecl : (T k).1 = own) (ht : ty0 k = .boolean ∨ ty0 k = .byte) (hdg : decode cc pc = .ok (.putfield index, 3)) {x : Int32} {f : jH → Option τ}
    (kk : ∀ σ2, pB G σ r ci k x = some σ2 → J p l e R s m args below meth c G σ0 Q fin t (f σ2) σ2 (F0 m (pc + 3) ls rest)) : J p l e R s m args below meth c G σ0 Q fin t ((pB G σ r ci k x).bind f) σ (F0 m pc ls (.int x :: va_rf r :: rest)) :=
  J.bind fun σ2 h => J.up (pV_le (pB_some h).2) (JW.putF X hini hin hc ty0 hty hap hk hl hsame hfin hdecl (nar_b ht (pB_some h).1).1 (nar_b ht (pB_some h).1).2 (pB_some h).2 hdg) (kk σ2 h)
theorem J.putRF (X : jCx p c cc nL s m args own G meth) (hini : meth.name = "<init>") (hin : ∀ w ∈ u_ws C T N, w ∈ lw_all) (hc : jCl[ci]? = some (C, T, N)) (hty : ∀ k, k < N → parseFieldDescriptor (T k).2.2.1 = some (ty0 k)) (hap : jap T N) (hk : k < N) (hl : Cond.fieldLink own index ref (T k).2.1 (T k).2.2.1 ∈ lw_all) (hsame : ∀ x, s.fieldFound? (T k).1 (T k).2.1 (T k).2.2.1 = some x → s.fieldFound? ref (T k).2.1 (T k).2.2.1 = some x) (hfin : (T k).2.2.2 = true) (hdecl : (T k).1 = own) (ht : (∃ n, ty0 k = .object n) ∨ ∃ t, ty0 k = .array t) (hdg : decode cc pc = .ok (.putfield index, 3)) {x : Option Nat} {f : jH → Option τ}
    (kk : ∀ σ2, pR G σ r ci k x = some σ2 → J p l e R s m args below meth c G σ0 Q fin t (f σ2) σ2 (F0 m (pc + 3) ls rest)) : J p l e R s m args below meth c G σ0 Q fin t ((pR G σ r ci k x).bind f) σ (F0 m pc ls (va_rf x :: va_rf r :: rest)) :=
  J.bind fun σ2 h => J.up (pV_le h) (JW.putF X hini hin hc ty0 hty hap hk hl hsame hfin hdecl (va_rf_o ht).1 (va_rf_o ht).2 h hdg) (kk σ2 h)
end FL
/-! arrays -/
theorem J.aI0 (X : jCx p c cc nL s m args own G meth) {r : Option Nat} {i : Int32} (hdg : decode cc pc = .ok (.iaload, 1)) {f : Int32 → Option τ}
    (kk : ∀ v, aI σ r 0 i = some v → J p l e R s m args below meth c G σ0 Q fin t (f v) σ (F0 m (pc + 1) ls (.int v :: rest))) : J p l e R s m args below meth c G σ0 Q fin t ((aI σ r 0 i).bind f) σ (F0 m pc ls (.int i :: va_rf r :: rest)) :=
  J.bind fun v h => J.up jLe.rf (JW.ldI0 X h hdg) (kk v h)
theorem J.aI1 (X : jCx p c cc nL s m args own G meth) {r : Option Nat} {i : Int32} (hdg : decode cc pc = .ok (.baload, 1)) {f : Int32 → Option τ}
    (kk : ∀ v, aI σ r 1 i = some v → J p l e R s m args below meth c G σ0 Q fin t (f v) σ (F0 m (pc + 1) ls (.int v :: rest))) : J p l e R s m args below meth c G σ0 Q fin t ((aI σ r 1 i).bind f) σ (F0 m pc ls (.int i :: va_rf r :: rest)) :=
  J.bind fun v h => J.up jLe.rf (JW.ldI1 X h hdg) (kk v h)
theorem J.aI2 (X : jCx p c cc nL s m args own G meth) {r : Option Nat} {i : Int32} (hdg : decode cc pc = .ok (.baload, 1)) {f : Int32 → Option τ}
    (kk : ∀ v, aI σ r 2 i = some v → J p l e R s m args below meth c G σ0 Q fin t (f v) σ (F0 m (pc + 1) ls (.int v :: rest))) : J p l e R s m args below meth c G σ0 Q fin t ((aI σ r 2 i).bind f) σ (F0 m pc ls (.int i :: va_rf r :: rest)) :=
  J.bind fun v h => J.up jLe.rf (JW.ldI2 X h hdg) (kk v h)
theorem J.aJ' (X : jCx p c cc nL s m args own G meth) {r : Option Nat} {i : Int32} (hdg : decode cc pc = .ok (.laload, 1)) {f : Int64 → Option τ}
    (kk : ∀ v, aJ σ r i = some v → J p l e R s m args below meth c G σ0 Q fin t (f v) σ (F0 m (pc + 1) ls (.long v :: rest))) : J p l e R s m args below meth c G σ0 Q fin t ((aJ σ r i).bind f) σ (F0 m pc ls (.int i :: va_rf r :: rest)) :=
  J.bind fun v h => J.up jLe.rf (JW.ldJ X h hdg) (kk v h)
theorem J.aR' (X : jCx p c cc nL s m args own G meth) {r : Option Nat} {i : Int32} (hdg : decode cc pc = .ok (.aaload, 1)) {f : Option Nat → Option τ}
    (kk : ∀ v, aR σ r i = some v → J p l e R s m args below meth c G σ0 Q fin t (f v) σ (F0 m (pc + 1) ls (va_rf v :: rest))) : J p l e R s m args below meth c G σ0 Q fin t ((aR σ r i).bind f) σ (F0 m pc ls (.int i :: va_rf r :: rest)) :=
  J.bind fun v h => J.up jLe.rf (JW.ldR X h hdg) (kk v h)
theorem J.sI0 (X : jCx p c cc nL s m args own G meth) {r : Option Nat} {i x : Int32} (hdg : decode cc pc = .ok (.iastore, 1)) {f : jH → Option τ}
    (kk : ∀ σ2, sI G σ r 0 i x = some σ2 → J p l e R s m args below meth c G σ0 Q fin t (f σ2) σ2 (F0 m (pc + 1) ls rest)) : J p l e R s m args below meth c G σ0 Q fin t ((sI G σ r 0 i x).bind f) σ (F0 m pc ls (.int x :: .int i :: va_rf r :: rest)) :=
  J.bind fun σ2 h => J.up (sI_le h) (JW.stI0 X h hdg) (kk σ2 h)
theorem J.sI1 (X : jCx p c cc nL s m args own G meth) {r : Option Nat} {i x : Int32} (hdg : decode cc pc = .ok (.bastore, 1)) {f : jH → Option τ}
    (kk : ∀ σ2, sI G σ r 1 i x = some σ2 → J p l e R s m args below meth c G σ0 Q fin t (f σ2) σ2 (F0 m (pc + 1) ls rest)) : J p l e R s m args below meth c G σ0 Q fin t ((sI G σ r 1 i x).bind f) σ (F0 m pc ls (.int x :: .int i :: va_rf r :: rest)) :=
  J.bind fun σ2 h => J.up (sI_le h) (JW.stI1 X h hdg) (kk σ2 h)
theorem J.sI2 (X : jCx p c cc nL s m args own G meth) {r : Option Nat} {i x : Int32} (hdg : decode cc pc = .ok (.bastore, 1)) {f : jH → Option τ}
    (kk : ∀ σ2, sI G σ r 2 i x = some σ2 → J p l e R s m args below meth c G σ0 Q fin t (f σ2) σ2 (F0 m (pc + 1) ls rest)) : J p l e R s m args below meth c G σ0 Q fin t ((sI G σ r 2 i x).bind f) σ (F0 m pc ls (.int x :: .int i :: va_rf r :: rest)) :=
  J.bind fun σ2 h => J.up (sI_le h) (JW.stI2 X h hdg) (kk σ2 h)
theorem J.sJ' (X : jCx p c cc nL s m args own G meth) {r : Option Nat} {i : Int32} {x : Int64} (hdg : decode cc pc = .ok (.lastore, 1)) {f : jH → Option τ}
    (kk : ∀ σ2, sJ G σ r i x = some σ2 → J p l e R s m args below meth c G σ0 Q fin t (f σ2) σ2 (F0 m (pc + 1) ls rest)) : J p l e R s m args below meth c G σ0 Q fin t ((sJ G σ r i x).bind f) σ (F0 m pc ls (.long x :: .int i :: va_rf r :: rest)) :=
  J.bind fun σ2 h => J.up (by obtain ⟨a, n, f, -, -, -, -, rfl⟩ := sJ_some h; exact jset_le) (JW.stJ X h hdg) (kk σ2 h)
/-- .. its length; the kind is one of ours -/
def aLen' (σ : jH) (r : Option Nat) : Option Int32 := match jar σ r with
  | some (.inl (k, n, _)) => if k ≤ 2 then some (Int32.ofNat n) else none
  | some (.inr (.inl (n, _))) => some (Int32.ofNat n)
  | some (.inr (.inr (n, _))) => some (Int32.ofNat n)
  | none => none
theorem aLen'_some {r : Option Nat} {v : Int32} (h : aLen' σ r = some v) : aLen σ r = some v ∧ ∀ k n f, jar σ r = some (.inl (k, n, f)) → k ≤ 2 := by
  unfold aLen' at h
  unfold aLen
  split at h
  · next k n f hx =>
    split at h
    · next hk => exact ⟨by rw [hx]; exact h, fun k2 n2 f2 h2 => by rw [hx] at h2; cases h2; exact hk⟩
    · cases h
  · next n f hx => exact ⟨by rw [hx]; exact h, fun k2 n2 f2 h2 => by rw [hx] at h2; cases h2⟩
  · next n f hx => exact ⟨by rw [hx]; exact h, fun k2 n2 f2 h2 => by rw [hx] at h2; cases h2⟩
  · cases h
theorem J.len (X : jCx p c cc nL s m args own G meth) {r : Option Nat} (hdg : decode cc pc = .ok (.arraylength, 1)) {f : Int32 → Option τ}
    (kk : ∀ v, aLen' σ r = some v → J p l e R s m args below meth c G σ0 Q fin t (f v) σ (F0 m (pc + 1) ls (.int v :: rest))) : J p l e R s m args below meth c G σ0 Q fin t ((aLen' σ r).bind f) σ (F0 m pc ls (va_rf r :: rest)) :=
  J.bind fun v h => J.up jLe.rf (fun q => JW.len X (aLen'_some h).1 hdg q (aLen'_some h).2) (kk v h)
/-! new cells -/
theorem J.mk {σ2 : jH} {g g2 : JFrame} {o : Option τ} (hR : R.cells = (fin t).2.1 - σ0.2.1 ∧ R.slots = (fin t).2.2 - σ0.2.2) {x : jE} {k : Nat} (h2 : σ2 = jnew σ (.inl x) k)
    (h : ∀ (H : Heap) (locs : List Loc) (cells slots : Nat), jInv G s σ H locs → cells + 1 ≤ R.cells → slots + k ≤ R.slots → (∀ H' : Heap, va_at G.1 jCl (H.size, jtoE G x) H' → H'.size = H.size + 1 → (∀ q : Nat, q < H.size → H'[q]? = H[q]?) → W p l e R s m args below meth c H' locs (cells + 1) (slots + k) Q g2) → W p l e R s m args below meth c H locs cells slots Q g)
    (kk : J p l e R s m args below meth c G σ0 Q fin t o σ2 g2) : J p l e R s m args below meth c G σ0 Q fin t o σ g := by
  subst h2
  intro ho
  obtain ⟨h1, h2⟩ := kk ho
  have hle : jLe σ (jnew σ (.inl x) k) := ⟨Nat.le_succ _, Nat.le_add_right _ _⟩
  refine ⟨hle.tr h1, fun h0 H locs hi => ?_⟩
  have a1 : σ.2.1 + 1 ≤ (fin t).2.1 := h1.1
  have a2 : σ.2.2 + k ≤ (fin t).2.2 := h1.2
  have a3 : σ0.2.1 ≤ σ.2.1 := h0.1
  have a4 : σ0.2.2 ≤ σ.2.2 := h0.2
  refine h H locs _ _ hi (by rw [hR.1]; omega) (by rw [hR.2]; omega) (fun H' hat z oq => ?_)
  refine W.cs (cells' := (jnew σ (.inl x) k).2.1 - σ0.2.1) (slots' := (jnew σ (.inl x) k).2.2 - σ0.2.2) (by show σ.2.1 - σ0.2.1 + 1 = σ.2.1 + 1 - σ0.2.1; omega) (by show σ.2.2 - σ0.2.2 + k = σ.2.2 + k - σ0.2.2; omega) ?_
  exact h2 (h0.tr hle) H' locs (jInv.new hi hat z oq)
end JR4
