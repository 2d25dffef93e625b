/-! reads and writes of abstract heaps, and their rows -/
set_option maxRecDepth 100000
def jset (σ : jH) (a : Nat) (x : jX) : jH := (va_up σ.1 a (some x), σ.2)
def jnew (σ : jH) (x : jX) (k : Nat) : jH := (va_up σ.1 σ.2.1 (some x), σ.2.1 + 1, σ.2.2 + k)
def gV (σ : jH) (r : Option Nat) (ci k : Nat) : Option Value := match r with
  | none => none
  | some a => match σ.1 a with
    | some (.inl (.inl (c, fs))) => if c = ci then fs[k]? else none
    | _ => none
def gI (σ : jH) (r : Option Nat) (ci k : Nat) : Option Int32 := match gV σ r ci k with
  | some (.int x) => some x
  | _ => none
def gR (σ : jH) (r : Option Nat) (ci k : Nat) : Option (Option Nat) := match gV σ r ci k with
  | some (.ref x) => some (some x)
  | some .null => some none
  | _ => none
def pV (G : jG) (σ : jH) (r : Option Nat) (ci k : Nat) (v : Value) : Option jH := match r with
  | none => none
  | some a => match σ.1 a with
    | some (.inl (.inl (c, fs))) => if c = ci ∧ k < fs.length ∧ G.2.2.1 ≤ a then some (jset σ a (jO c (fs.set k v))) else none
    | _ => none
def pI (G : jG) (σ : jH) (r : Option Nat) (ci k : Nat) (x : Int32) : Option jH := pV G σ r ci k (.int x)
def pB (G : jG) (σ : jH) (r : Option Nat) (ci k : Nat) (x : Int32) : Option jH := if x = 0 ∨ x = 1 then pV G σ r ci k (.int x) else none
def pR (G : jG) (σ : jH) (r : Option Nat) (ci k : Nat) (x : Option Nat) : Option jH := pV G σ r ci k (va_rf x)
def jar (σ : jH) (r : Option Nat) : Option jB := match r with
  | none => none
  | some a => match σ.1 a with
    | some (.inl (.inr b)) => some b
    | _ => none
def aLen (σ : jH) (r : Option Nat) : Option Int32 := match jar σ r with
  | some (.inl (_, n, _)) => some (Int32.ofNat n)
  | some (.inr (.inl (n, _))) => some (Int32.ofNat n)
  | some (.inr (.inr (n, _))) => some (Int32.ofNat n)
  | none => none
def aI (σ : jH) (r : Option Nat) (kd : Nat) (i : Int32) : Option Int32 := match jar σ r with
  | some (.inl (k, n, f)) => if k = kd ∧ ¬ (i < 0 ∨ n ≤ i.toNatClampNeg) then some (f i.toNatClampNeg) else none
  | _ => none
def aJ (σ : jH) (r : Option Nat) (i : Int32) : Option Int64 := match jar σ r with
  | some (.inr (.inl (n, f))) => if ¬ (i < 0 ∨ n ≤ i.toNatClampNeg) then some (f i.toNatClampNeg) else none
  | _ => none
def aR (σ : jH) (r : Option Nat) (i : Int32) : Option (Option Nat) := match jar σ r with
  | some (.inr (.inr (n, f))) => if ¬ (i < 0 ∨ n ≤ i.toNatClampNeg) then some (f i.toNatClampNeg) else none
  | _ => none
def jnar (kd : Nat) (x : Int32) : Int32 := match kd with
  | 0 => x
  | 1 => vp_nar .byte x
  | _ => vp_nar .boolean x
def sI (G : jG) (σ : jH) (r : Option Nat) (kd : Nat) (i x : Int32) : Option jH := match r with
  | none => none
  | some a => match σ.1 a with
    | some (.inl (.inr (.inl (k, n, f)))) => if k = kd ∧ ¬ (i < 0 ∨ n ≤ i.toNatClampNeg) ∧ G.2.2.1 ≤ a then some (jset σ a (jI k n (upd f i.toNatClampNeg (jnar kd x)))) else none
    | _ => none
def sJ (G : jG) (σ : jH) (r : Option Nat) (i : Int32) (x : Int64) : Option jH := match r with
  | none => none
  | some a => match σ.1 a with
    | some (.inl (.inr (.inr (.inl (n, f))))) => if ¬ (i < 0 ∨ n ≤ i.toNatClampNeg) ∧ G.2.2.1 ≤ a then some (jset σ a (jL n (vp_updL f i.toNatClampNeg x))) else none
    | _ => none
/-- the class number of a cell -/
def jcls (x : jX) : Option Nat := match x with
  | .inl (.inl (c, _)) => some c
  | .inl (.inr _) => none
  | .inr (0, _) => some 15
  | .inr (1, _) => some 16
  | .inr (2, _) => some 18
  | .inr (3, _) => some 20
  | .inr (4, _) => some 21
  | .inr (5, _) => some 19
  | .inr (_, _) => none
def rc (σ : jH) (r : Option Nat) (ci : Nat) : Option Nat := match r with
  | none => none
  | some a => match σ.1 a with
    | some x => if jcls x = some ci then some a else none
    | none => none
/-- an object of one of our classes may lie in a row of objects -/
def jok (σ : jH) (r : Option Nat) : Bool := match r with
  | none => true
  | some a => match σ.1 a with
    | some x => match jcls x with
      | some c => ([1, 3, 4, 9, 10, 11, 12, 13, 14] : List Nat).contains c
      | none => false
    | none => false
def sR (G : jG) (σ : jH) (r : Option Nat) (i : Int32) (x : Option Nat) : Option jH := match r with
  | none => none
  | some a => match σ.1 a with
    | some (.inl (.inr (.inr (.inr (n, f))))) => if ¬ (i < 0 ∨ n ≤ i.toNatClampNeg) ∧ G.2.2.1 ≤ a ∧ jok σ x = true then some (jset σ a (jR n (va_up f i.toNatClampNeg x))) else none
    | _ => none
def nO (σ : jH) (ci : Nat) (fs : List Value) (k : Nat) : Option (Nat × jH) := some (σ.2.1, jnew σ (jO ci fs) k)
def nI' (σ : jH) (kd : Nat) (n : Int32) : Option (Nat × jH) := if ¬ n < 0 ∧ n.toNatClampNeg ≤ 65536 then some (σ.2.1, jnew σ (jI kd n.toNatClampNeg (fun _ => 0)) n.toNatClampNeg) else none
def nJ (σ : jH) (n : Int32) : Option (Nat × jH) := if ¬ n < 0 ∧ n.toNatClampNeg ≤ 65536 then some (σ.2.1, jnew σ (jL n.toNatClampNeg (fun _ => 0)) n.toNatClampNeg) else none
def nR (σ : jH) (n : Int32) : Option (Nat × jH) := if ¬ n < 0 ∧ n.toNatClampNeg ≤ 65536 then some (σ.2.1, jnew σ (jR n.toNatClampNeg (fun _ => none)) n.toNatClampNeg) else none
theorem gV_some {σ : jH} {r : Option Nat} {ci k : Nat} {v : Value} (h : gV σ r ci k = some v) : ∃ (a : Nat) (fs : List Value), r = some a ∧ σ.1 a = some (jO ci fs) ∧ fs[k]? = some v := by
  unfold gV at h
  split at h
  · cases h
  · split at h
    · next c fs hx =>
      split at h
      · next hc => subst hc; exact ⟨_, _, rfl, hx, h⟩
      · cases h
    · cases h
theorem gI_some {σ : jH} {r : Option Nat} {ci k : Nat} {x : Int32} (h : gI σ r ci k = some x) : gV σ r ci k = some (.int x) := by
  unfold gI at h
  split at h
  · next hx => cases h; exact hx
  · cases h
theorem gR_some {σ : jH} {r : Option Nat} {ci k : Nat} {x : Option Nat} (h : gR σ r ci k = some x) : gV σ r ci k = some (va_rf x) := by
  unfold gR at h
  split at h
  · next hx => cases h; exact hx
  · next hx => cases h; exact hx
  · cases h
theorem pV_some {G : jG} {σ τ : jH} {r : Option Nat} {ci k : Nat} {v : Value} (h : pV G σ r ci k v = some τ) : ∃ (a : Nat) (fs : List Value), r = some a ∧ σ.1 a = some (jO ci fs) ∧ k < fs.length ∧ G.2.2.1 ≤ a ∧ τ = jset σ a (jO ci (fs.set k v)) := by
  unfold pV at h
  split at h
  · cases h
  · split at h
    · next c fs hx =>
      split at h
      · next hc =>
        obtain ⟨rfl, h2, h3⟩ := hc
        cases h
        exact ⟨_, _, rfl, hx, h2, h3, rfl⟩
      · cases h
    · cases h
theorem jset_le {σ : jH} {a : Nat} {x : jX} : jLe σ (jset σ a x) := ⟨Nat.le_refl _, Nat.le_refl _⟩
theorem pV_le {G : jG} {σ τ : jH} {r : Option Nat} {ci k : Nat} {v : Value} (h : pV G σ r ci k v = some τ) : jLe σ τ := by
  obtain ⟨a, fs, -, -, -, -, rfl⟩ := pV_some h
  exact jset_le
/-! one cell of ours changes; a cell is made -/
theorem jIn.lt {G : jG} {s : State} {H0 H : Heap} {h : Nat → Option jX} {φ : Nat → Option jE} {ws : va_W} (hφ : ∀ (a : Nat) (e : jE), φ a = some e → (G.2.2.1 ≤ a ∧ (a, jtoE G e) ∈ ws) ∨ (a < G.2.2.1 ∧ jcat G s H0 a e)) (hP : va_P G.1 jCl ws H) (hz : G.2.2.1 ≤ H.size) {a : Nat} {e : jE} (he : φ a = some e) : a < H.size := by
  rcases hφ a e he with ⟨-, hw⟩ | ⟨ha, -⟩
  · obtain ⟨q0, hq0⟩ := List.getElem?_of_mem hw
    exact (hP q0 _ hq0).lt
  · exact Nat.lt_of_lt_of_le ha hz
theorem jInv.set {G : jG} {s : State} {σ : jH} {H H' : Heap} {locs L : List Loc} {a : Nat} {e e' : jE} (hi : jInv G s σ H locs) (ha : σ.1 a = some (.inl e)) (han : G.2.2.1 ≤ a) (hat : va_at G.1 jCl (a, jtoE G e') H') (z : H'.size = H.size) (oq : ∀ q : Nat, q ≠ a → H'[q]? = H[q]?) (hL : ∀ q ∈ L, q.base = a) : jInv G s (jset σ a (.inl e')) H' (locs ++ L) := by
  obtain ⟨⟨φ, ws, ⟨ow, gh, hr⟩, hφ, hP, hD⟩, hS, hz, hn⟩ := hi
  have hφa : φ a = some e := (hr a _ ha).1
  have howa : ow a = a := (hr a _ ha).2
  have hwa : (a, jtoE G e) ∈ ws := by
    rcases hφ a e hφa with ⟨-, hw⟩ | ⟨hlt, -⟩
    · exact hw
    · exact absurd han (Nat.not_le.mpr hlt)
  obtain ⟨q0, hq0⟩ := List.getElem?_of_mem hwa
  refine ⟨⟨va_up φ a (some e'), ws.set q0 (a, jtoE G e'), ⟨ow, gh, fun b x hx => ?_⟩, fun b e2 he2 => ?_, hP.set hD hq0 hat oq, hD.set hq0⟩, ⟨by rw [z]; exact hS.1, fun q h1 h2 => ?_, fun q hq => ?_⟩, by rw [z]; exact hz, hn⟩
  · by_cases hb : b = a
    · subst hb
      have hx' : x = .inl e' := by
        have h9 : va_up σ.1 b (some (.inl e')) b = some x := hx
        rw [va_up_self] at h9
        exact (Option.some.inj h9).symm
      subst hx'
      exact ⟨va_up_self _ _ _, howa⟩
    · have h9 : σ.1 b = some x := by
        have h8 : va_up σ.1 a (some (.inl e')) b = some x := hx
        rw [va_up_ne _ _ hb] at h8
        exact h8
      have h7 := hr b x h9
      match x, h7 with
      | .inl e3, h7 => exact ⟨by rw [va_up_ne _ _ hb]; exact h7.1, h7.2⟩
      | .inr c, h7 =>
        obtain ⟨h6, ps, h5, h4⟩ := h7
        refine ⟨h6, ps, fun y hy => ⟨?_, (h5 y hy).2⟩, h4⟩
        have hya : y.1 ≠ a := by
          intro hya
          rcases (h5 y hy).2 with h3 | ⟨-, h3⟩
          · rw [hya] at h3; exact absurd han (Nat.not_le.mpr h3)
          · rw [hya, howa] at h3; exact hb h3.symm
        rw [va_up_ne _ _ hya]
        exact (h5 y hy).1
  · by_cases hb : b = a
    · subst hb
      rw [va_up_self] at he2
      cases he2
      exact Or.inl ⟨han, List.mem_of_getElem? (i := q0) (by rw [List.getElem?_set_self (List.getElem?_eq_some_iff.mp hq0).1])⟩
    · rw [va_up_ne _ _ hb] at he2
      rcases hφ b e2 he2 with ⟨h1, h2⟩ | h1
      · obtain ⟨j, hj⟩ := List.getElem?_of_mem h2
        have hjq : q0 ≠ j := by
          intro hjq
          rw [← hjq, hq0] at hj
          exact hb (congrArg Prod.fst (Option.some.inj hj)).symm
        exact Or.inl ⟨h1, List.mem_of_getElem? (i := j) (by rw [List.getElem?_set_ne hjq]; exact hj)⟩
      · exact Or.inr h1
  · rw [oq q (fun hqa => h2 (by rw [hqa]; exact han))]
    exact hS.2.1 q h1 h2
  · rcases List.mem_append.mp hq with h1 | h1
    · exact hS.2.2 q h1
    · rw [hL q h1]; exact han
theorem jInv.new {G : jG} {s : State} {σ : jH} {H H' : Heap} {locs : List Loc} {e : jE} {k : Nat} (hi : jInv G s σ H locs) (hat : va_at G.1 jCl (H.size, jtoE G e) H') (z : H'.size = H.size + 1) (oq : ∀ q : Nat, q < H.size → H'[q]? = H[q]?) : jInv G s (jnew σ (.inl e) k) H' locs := by
  obtain ⟨⟨φ, ws, ⟨ow, gh, hr⟩, hφ, hP, hD⟩, hS, hz, hn⟩ := hi
  have hzn : G.2.2.1 ≤ H.size := Nat.le_trans hn hS.1
  have hlt : ∀ {a : Nat} {e : jE}, φ a = some e → a < H.size := fun he => jIn.lt (h := σ.1) hφ hP hzn he
  have hk : ∀ (k : Nat) (x : Nat × va_E), ws[k]? = some x → H'[x.1]? = H[x.1]? := fun k x hx => oq x.1 ((hP k x hx).lt)
  refine ⟨⟨va_up φ H.size (some e), ws ++ [(H.size, jtoE G e)], ⟨va_up ow H.size H.size, gh, fun b x hx => ?_⟩, fun b e2 he2 => ?_, (hP.kept hk).app (fun k x hx => ?_), hD.push hP rfl hzn⟩, ⟨Nat.le_trans hS.1 (by omega), fun q h1 h2 => (oq q (Nat.lt_of_lt_of_le h1 hS.1)).trans (hS.2.1 q h1 h2), hS.2.2⟩, ?_, hn⟩
  · have hx' : va_up σ.1 σ.2.1 (some (.inl e)) b = some x := hx
    rw [← hz] at hx'
    by_cases hb : b = H.size
    · subst hb
      rw [va_up_self] at hx'
      cases hx'
      exact ⟨va_up_self _ _ _, va_up_self _ _ _⟩
    · rw [va_up_ne _ _ hb] at hx'
      have h7 := hr b x hx'
      match x, h7 with
      | .inl e3, h7 => exact ⟨by rw [va_up_ne _ _ hb]; exact h7.1, by rw [va_up_ne _ _ hb]; exact h7.2⟩
      | .inr c, h7 =>
        obtain ⟨h6, ps, h5, h4⟩ := h7
        refine ⟨by rw [va_up_ne _ _ hb]; exact h6, ps, fun y hy => ?_, h4⟩
        have hya : y.1 ≠ H.size := Nat.ne_of_lt (hlt (h5 y hy).1)
        rw [va_up_ne _ _ hya, va_up_ne _ _ hya]
        exact h5 y hy
  · by_cases hb : b = H.size
    · subst hb
      rw [va_up_self] at he2
      cases he2
      exact Or.inl ⟨hzn, by simp⟩
    · rw [va_up_ne _ _ hb] at he2
      rcases hφ b e2 he2 with ⟨h1, h2⟩ | h1
      · exact Or.inl ⟨h1, List.mem_append_left _ h2⟩
      · exact Or.inr h1
  · have hz1 : k < 1 := (List.getElem?_eq_some_iff.mp hx).1
    rw [show k = 0 by omega] at hx
    cases hx
    exact hat
  · show H'.size = σ.2.1 + 1
    rw [z, hz]
/-- what a walk knows of its machine -/
def jCx (p : Program) (c : Code) (cc : ByteArray) (nL : Nat) (s : State) (m : MethodId) (args : Array Value) (own : String) (G : jG) (meth : Method) : Prop :=
  CallFix p m c cc nL s args lw_all own ∧ jGl G s ∧ meth.locks = false
def jap (T : u_T) (N : Nat) : Prop := ∀ a, a < N → ∀ b, b < N → a ≠ b → (T a).2.1 ≠ (T b).2.1 ∨ ((T a).1 ≠ (T b).1 ∧ (T a).2.2.2 = true ∧ (T b).2.2.2 = true)
