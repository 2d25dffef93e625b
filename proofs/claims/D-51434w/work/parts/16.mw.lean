/-! the reference's world: one object, its eleven rows of ints; a state is (rows, numbers) -/
set_option maxRecDepth 100000
abbrev jM : Type := (Nat → Nat → Int32) × (Nat → Int32)
/-- the fields that hold rows, and how long these are -/
def mks : List Nat := [0, 1, 2, 3, 4, 8, 19, 20, 21, 22, 24]
def mlen (k : Nat) : Nat := match k with
  | 4 => 4200
  | 8 => 600
  | 19 => 4
  | 20 => 31
  | 21 => 31
  | 22 => 31
  | 24 => 400
  | _ => 525
def mfs (A : Nat → Nat) (S : Nat → Int32) : List Value := [.ref (A 0), .ref (A 1), .ref (A 2), .ref (A 3), .ref (A 4), .int (S 5), .int (S 6), .int (S 7), .ref (A 8), .int (S 9), .int (S 10), .int (S 11), .int (S 12), .int (S 13), .int (S 14), .int (S 15), .int (S 16), .int (S 17), .int (S 18), .ref (A 19), .ref (A 20), .ref (A 21), .ref (A 22), .int (S 23), .ref (A 24), .int (S 25)]
/-- the heap that holds a state of the reference, over a heap of the rest -/
def mH (mo : Nat) (A : Nat → Nat) (σ : jH) (M : jM) : jH :=
  (fun a => if a = mo then some (jO 5 (mfs A M.2)) else match mks.find? (fun k => A k == a) with
    | some k => some (jI 0 (mlen k) (M.1 k))
    | none => σ.1 a, σ.2)
/-- where it lies -/
def mOK (G : jG) (mo : Nat) (A : Nat → Nat) : Prop := G.2.2.1 ≤ mo ∧ ∀ k ∈ mks, G.2.2.1 ≤ A k ∧ A k ≠ mo ∧ ∀ j ∈ mks, A j = A k → j = k
/-- a number's field -/
def mns : List Nat := [5, 6, 7, 9, 10, 11, 12, 13, 14, 15, 16, 17, 18, 23, 25]
theorem mH_le {mo : Nat} {A : Nat → Nat} {σ : jH} {M M' : jM} : jLe (mH mo A σ M) (mH mo A σ M') := ⟨Nat.le_refl _, Nat.le_refl _⟩
theorem mH_o {mo : Nat} {A : Nat → Nat} {σ : jH} {M : jM} : (mH mo A σ M).1 mo = some (jO 5 (mfs A M.2)) := by simp [mH]
theorem mH_a {G : jG} {mo : Nat} {A : Nat → Nat} {σ : jH} {M : jM} (h : mOK G mo A) {k : Nat} (hk : k ∈ mks) : (mH mo A σ M).1 (A k) = some (jI 0 (mlen k) (M.1 k)) := by
  have h1 := h.2 k hk
  have h2 : mks.find? (fun j => A j == A k) = some k := by
    cases hf : mks.find? (fun j => A j == A k) with
    | none =>
      have := List.find?_eq_none.mp hf k hk
      simp at this
    | some j =>
      have h3 := List.find?_some hf
      have h4 := List.mem_of_find?_eq_some hf
      have h5 : A j = A k := by simpa using h3
      rw [h1.2.2 j h4 h5]
  show (if A k = mo then _ else _) = _
  rw [if_neg h1.2.1]
  simp only [h2]
theorem mks_num : ∀ k ∈ mns, k ∉ mks := by decide
/-- a number is stored -/
theorem mH_put {G : jG} {mo : Nat} {A : Nat → Nat} {σ : jH} {M : jM} (h : mOK G mo A) {k : Nat} (hk : k ∈ mns) (x : Int32) : pV G (mH mo A σ M) (some mo) 5 k (.int x) = some (mH mo A σ (M.1, va_up M.2 k x)) := by
  have hl : k < (mfs A M.2).length := by
    have : ∀ k ∈ mns, k < 26 := by decide
    exact this k hk
  unfold pV
  simp only [mH_o]
  rw [if_pos ⟨trivial, hl, h.1⟩]
  have e1 : (mfs A M.2).set k (.int x) = mfs A (va_up M.2 k x) := by
    simp only [mns, List.mem_cons, List.not_mem_nil, or_false] at hk
    rcases hk with rfl | rfl | rfl | rfl | rfl | rfl | rfl | rfl | rfl | rfl | rfl | rfl | rfl | rfl | rfl <;> simp [mfs, va_up]
  rw [e1]
  congr 1
  unfold jset mH
  congr 1
  funext a
  by_cases ha : a = mo
  · subst ha; simp [va_up]
  · simp [va_up, ha]
/-- a row's place is stored -/
theorem mH_st {G : jG} {mo : Nat} {A : Nat → Nat} {σ : jH} {M : jM} (h : mOK G mo A) {k : Nat} (hk : k ∈ mks) {i : Int32} (x : Int32) (hi : ¬ (i < 0 ∨ mlen k ≤ i.toNatClampNeg)) : sI G (mH mo A σ M) (some (A k)) 0 i x = some (mH mo A σ ((fun j => if j = k then upd (M.1 k) i.toNatClampNeg x else M.1 j), M.2)) := by
  unfold sI
  have h1 := h.2 k hk
  simp only [mH_a h hk]
  rw [if_pos ⟨trivial, hi, h1.1⟩]
  congr 1
  unfold jset mH
  congr 1
  funext a
  by_cases ha : a = A k
  · subst ha
    have h2 : mks.find? (fun j => A j == A k) = some k := by
      cases hf : mks.find? (fun j => A j == A k) with
      | none =>
        have := List.find?_eq_none.mp hf k hk
        simp at this
      | some j =>
        have h3 := List.find?_some hf
        have h4 := List.mem_of_find?_eq_some hf
        have h5 : A j = A k := by simpa using h3
        rw [h1.2.2 j h4 h5]
    simp [va_up, h1.2.1, h2, jnar]
  · rw [va_up_ne _ _ ha]
    by_cases hm : a = mo
    · simp [hm]
    · simp only [hm, if_false]
      cases hf : mks.find? (fun j => A j == a) with
      | none => rfl
      | some j =>
        have h3 := List.find?_some hf
        have h5 : A j = a := by simpa using h3
        have hjk : j ≠ k := fun e => ha (by rw [← h5, e])
        simp [hjk]
/-! the functions' words -/
def mA (M : jM) (k : Nat) (i : Int32) : Option Int32 := if ¬ (i < 0 ∨ mlen k ≤ i.toNatClampNeg) then some (M.1 k i.toNatClampNeg) else none
def mS (M : jM) (k : Nat) (i x : Int32) : Option jM := if ¬ (i < 0 ∨ mlen k ≤ i.toNatClampNeg) then some ((fun j => if j = k then upd (M.1 k) i.toNatClampNeg x else M.1 j), M.2) else none
def mP (M : jM) (k : Nat) (x : Int32) : jM := (M.1, va_up M.2 k x)
theorem mA_eq {G : jG} {mo : Nat} {A : Nat → Nat} {σ : jH} {M : jM} (h : mOK G mo A) {k : Nat} (hk : k ∈ mks) {i v : Int32} (hv : mA M k i = some v) : aI (mH mo A σ M) (some (A k)) 0 i = some v := by
  unfold aI jar
  simp only [mH_a h hk]
  unfold mA at hv
  split at hv
  · next hi => rw [if_pos ⟨trivial, hi⟩]; exact hv
  · cases hv
theorem mS_eq {G : jG} {mo : Nat} {A : Nat → Nat} {σ : jH} {M M2 : jM} (h : mOK G mo A) {k : Nat} (hk : k ∈ mks) {i x : Int32} (hv : mS M k i x = some M2) : sI G (mH mo A σ M) (some (A k)) 0 i x = some (mH mo A σ M2) := by
  unfold mS at hv
  split at hv
  · next hi => cases hv; exact mH_st h hk x hi
  · cases hv
/-- answers of a function of states, over heaps -/
def mup {β : Type} (mo : Nat) (A : Nat → Nat) (σ : jH) (o : Option (β × jM)) : Option (β × jH) := o.map fun r => (r.1, mH mo A σ r.2)
theorem mup_of {β : Type} {mo : Nat} {A : Nat → Nat} {σ : jH} {o : Option (β × jM)} {v : β} {M : jM} (h : o = some (v, M)) : mup mo A σ o = some (v, mH mo A σ M) := by rw [h]; rfl
section MW
variable {p : Program} {l : Launch} {e : Env} {R : Room} {s : State} {m : MethodId} {args : Array Value} {below : List Frame} {meth : Method} {c : Code} {G : jG} {σ0 σ : jH} {Q : State → Prop}
variable {cc : ByteArray} {nL : Nat} {pc : Nat} {ls : Array Slot} {rest : List Value}
variable {τ : Type} {fin : τ → jH} {t : τ} {mo : Nat} {A : Nat → Nat} {M : jM}
theorem J.mgA (X : jCx p c cc nL s m args "SortingLoopModel" G meth) {k index : Nat} (hk : k ∈ mks) (hl : Cond.fieldLink "SortingLoopModel" index "SortingLoopModel" (TX6 k).2.1 (TX6 k).2.2.1 ∈ lw_all) (hg : (mfs A M.2)[k]? = some (.ref (A k))) (hd : (TX6 k).1 = "SortingLoopModel") (hdg : decode cc pc = .ok (.getfield index, 3)) {o : Option τ}
    (kk : J p l e R s m args below meth c G σ0 Q fin t o (mH mo A σ M) (F0 m (pc + 3) ls (.ref (A k) :: rest))) : J p l e R s m args below meth c G σ0 Q fin t o (mH mo A σ M) (F0 m pc ls (.ref mo :: rest)) := by
  have hN : k < 26 := by
    have : ∀ k ∈ mks, k < 26 := by decide
    exact this k hk
  refine J.up jLe.rf (fun q => ?_) kk
  exact JW.get (r := some mo) X in_X6 (show jCl[5]? = some (RX6, TX6, 26) from rfl) hN hl (fun x hx => by rw [← hd]; exact hx) (by unfold gV; simp only [mH_o]; rw [if_pos trivial]; exact hg) hdg q
theorem J.mgS (X : jCx p c cc nL s m args "SortingLoopModel" G meth) {k index : Nat} (hk : k ∈ mns) (hl : Cond.fieldLink "SortingLoopModel" index "SortingLoopModel" (TX6 k).2.1 (TX6 k).2.2.1 ∈ lw_all) (hg : (mfs A M.2)[k]? = some (.int (M.2 k))) (hd : (TX6 k).1 = "SortingLoopModel") (hdg : decode cc pc = .ok (.getfield index, 3)) {o : Option τ}
    (kk : J p l e R s m args below meth c G σ0 Q fin t o (mH mo A σ M) (F0 m (pc + 3) ls (.int (M.2 k) :: rest))) : J p l e R s m args below meth c G σ0 Q fin t o (mH mo A σ M) (F0 m pc ls (.ref mo :: rest)) := by
  have hN : k < 26 := by
    have : ∀ k ∈ mns, k < 26 := by decide
    exact this k hk
  refine J.up jLe.rf (fun q => ?_) kk
  exact JW.get (r := some mo) X in_X6 (show jCl[5]? = some (RX6, TX6, 26) from rfl) hN hl (fun x hx => by rw [← hd]; exact hx) (by unfold gV; simp only [mH_o]; rw [if_pos trivial]; exact hg) hdg q
theorem jap_X6 : jap TX6 26 := fun a ha b hb h => Or.inl (nmX6 a ha b hb h)
theorem J.mpS (X : jCx p c cc nL s m args "SortingLoopModel" G meth) (hm : mOK G mo A) {k index : Nat} (hk : k ∈ mns) (hl : Cond.fieldLink "SortingLoopModel" index "SortingLoopModel" (TX6 k).2.1 (TX6 k).2.2.1 ∈ lw_all) (hd : (TX6 k).1 = "SortingLoopModel") (hf : (TX6 k).2.2.2 = false) (ht : tyX6 k = .int) {x : Int32} (hdg : decode cc pc = .ok (.putfield index, 3)) {o : Option τ}
    (kk : J p l e R s m args below meth c G σ0 Q fin t o (mH mo A σ (mP M k x)) (F0 m (pc + 3) ls rest)) : J p l e R s m args below meth c G σ0 Q fin t o (mH mo A σ M) (F0 m pc ls (.int x :: .ref mo :: rest)) := by
  have hN : k < 26 := by
    have : ∀ k ∈ mns, k < 26 := by decide
    exact this k hk
  refine J.up mH_le (fun q => ?_) kk
  exact JW.put (r := some mo) X in_X6 (show jCl[5]? = some (RX6, TX6, 26) from rfl) tyX6 tyX6_ok jap_X6 hN hl (fun x hx => by rw [← hd]; exact hx) hf (by rw [ht]; rfl) (by rw [ht]; rfl) (mH_put hm hk x) hdg q
/-- .. isSaved, a boolean -/
theorem J.mpB (X : jCx p c cc nL s m args "SortingLoopModel" G meth) (hm : mOK G mo A) {k index : Nat} (hk : k ∈ mns) (hl : Cond.fieldLink "SortingLoopModel" index "SortingLoopModel" (TX6 k).2.1 (TX6 k).2.2.1 ∈ lw_all) (hd : (TX6 k).1 = "SortingLoopModel") (hf : (TX6 k).2.2.2 = false) (ht : tyX6 k = .boolean) {x : Int32} (hx : x = 0 ∨ x = 1) (hdg : decode cc pc = .ok (.putfield index, 3)) {o : Option τ}
    (kk : J p l e R s m args below meth c G σ0 Q fin t o (mH mo A σ (mP M k x)) (F0 m (pc + 3) ls rest)) : J p l e R s m args below meth c G σ0 Q fin t o (mH mo A σ M) (F0 m pc ls (.int x :: .ref mo :: rest)) := by
  have hN : k < 26 := by
    have : ∀ k ∈ mns, k < 26 := by decide
    exact this k hk
  refine J.up mH_le (fun q => ?_) kk
  exact JW.put (r := some mo) X in_X6 (show jCl[5]? = some (RX6, TX6, 26) from rfl) tyX6 tyX6_ok jap_X6 hN hl (fun x hx => by rw [← hd]; exact hx) hf (nar_b (Or.inl ht) hx).1 (nar_b (Or.inl ht) hx).2 (mH_put hm hk x) hdg q
theorem J.mld {own : String} (X : jCx p c cc nL s m args own G meth) (hm : mOK G mo A) {k : Nat} (hk : k ∈ mks) {i : Int32} (hdg : decode cc pc = .ok (.iaload, 1)) {f : Int32 → Option τ}
    (kk : ∀ v, mA M k i = some v → J p l e R s m args below meth c G σ0 Q fin t (f v) (mH mo A σ M) (F0 m (pc + 1) ls (.int v :: rest))) : J p l e R s m args below meth c G σ0 Q fin t ((mA M k i).bind f) (mH mo A σ M) (F0 m pc ls (.int i :: .ref (A k) :: rest)) :=
  J.bind fun v h => J.up jLe.rf (JW.ldI0 (r := some (A k)) X (mA_eq hm hk h) hdg) (kk v h)
theorem J.mst {own : String} (X : jCx p c cc nL s m args own G meth) (hm : mOK G mo A) {k : Nat} (hk : k ∈ mks) {i x : Int32} (hdg : decode cc pc = .ok (.iastore, 1)) {f : jM → Option τ}
    (kk : ∀ M2, mS M k i x = some M2 → J p l e R s m args below meth c G σ0 Q fin t (f M2) (mH mo A σ M2) (F0 m (pc + 1) ls rest)) : J p l e R s m args below meth c G σ0 Q fin t ((mS M k i x).bind f) (mH mo A σ M) (F0 m pc ls (.int x :: .int i :: .ref (A k) :: rest)) :=
  J.bind fun M2 h => J.up mH_le (JW.stI0 (r := some (A k)) X (mS_eq hm hk h) hdg) (kk M2 h)
theorem mH_rc : rc (mH mo A σ M) (some mo) 5 = some mo := by
  unfold rc
  simp only [mH_o]
  rw [if_pos (show jcls (jO 5 (mfs A M.2)) = some 5 from rfl)]
end MW
/-- .. of a writer over the reference's states -/
theorem jCt.wm {l : Launch} {G : jG} {y : MethodName} {cc : ByteArray} {maxL F L : Nat} {rt : Option FieldType} {lv : List (Nat × Value)} {av : List Value} {mo : Nat} {A : Nat → Nat} {σ : jH} {M : jM} {β : Type} {ret : β → Option Value} {o : Option (β × jM)} (hy : plainFor y = true) (hsl : (lg_sl av).length ≤ maxL) (hlv : lv_args 0 av = lv)
    (h : ∀ t, jWalk l G y cc maxL rt F L lv (mH mo A σ M) (fun r : β × jM => mH mo A σ r.2) (fun t => ret t.1) t o) : jCt l G y (ws_ y cc maxL rt) F L ret av (mH mo A σ M) (mup mo A σ o) := by
  intro rs ho
  unfold mup at ho
  cases hb : o with
  | none => rw [hb] at ho; cases ho
  | some r =>
    rw [hb] at ho
    have e : rs = (r.1, mH mo A σ r.2) := (Option.some.inj ho).symm
    subst e
    exact ⟨mH_le, jWalk.met (fin := fun r : β × jM => mH mo A σ r.2) (vr := fun t => ret t.1) (t := r) hy hsl hlv hb (h r)⟩
