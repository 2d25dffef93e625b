/-! String constants: texts; the reference's asks of them (their contracts are proved behind the JDK's own) -/
set_option maxRecDepth 100000
section KC
variable {p : Program} {l : Launch} {e : Env} {R : Room} {s : State} {m : MethodId} {args : Array Value} {below : List Frame} {meth : Method} {c : Code} {G : jG} {σ0 σ : jH} {Q : State → Prop}
variable {cc : ByteArray} {nL : Nat} {own : String} {pc : Nat} {ls : Array Slot} {rest : List Value}
theorem W.ldcwS (X : jCx p c cc nL s m args own G meth) {H : Heap} {locs : List Loc} {cells slots : Nat} {index i : Nat} {tx : String} (hi : jSr[i]? = some (own, index, tx)) (hdg : decode cc pc = .ok (.ldc_w index, 3))
    (k : W p l e R s m args below meth c H locs cells slots Q (F0 m (pc + 3) ls (va_rf (G.2.2.2 i) :: rest))) : W p l e R s m args below meth c H locs cells slots Q (F0 m pc ls rest) := by
  obtain ⟨a, e1, e2⟩ := X.2.1.2.2.2.2.2.2.1 i _ hi
  rw [e1] at k
  intro T hT X9
  obtain ⟨t, a1, b1⟩ := k T hT X9
  refine ⟨t, ?_, b1⟩
  obtain ⟨kk, cf, i9, a', hk, hcf, hcp, -, hr, hev'⟩ := Cond.stringRef_spec (args := #[]) (first := s) (o := none) (idx := []) X.1.2.2.2.1 e2.1
  cases e2.2.symm.trans hev'
  obtain ⟨k', hk', he⟩ := X9.warmed.alike.2.2 _ _ hk
  have hr' : k'.resolved[index]? = some (some (.string a)) := by
    rcases X9.warmed.entry hk hk' index with h | ⟨h, -⟩
    · rw [h]; exact hr
    · rw [hr] at h; cases h
  have hdg' : decode c.code pc = .ok (.ldc_w index, 3) := by rw [X.1.2.1]; exact hdg
  jvm_step X9.here [X.1.1, hdg', ldc_w.wp_string (e := e) (s := T) (f := F0 m pc ls rest) X9.here.top hk' (by rw [he]; exact hcf) hcp hr']
  exact a1
end KC
/-- the constants' texts -/
def kTx (i : Nat) : List Int32 := match i with
  | 0 => [73, 108, 108, 101, 103, 97, 108, 32, 67, 97, 112, 97, 99, 105, 116, 121, 58, 32]
  | 1 => [32, 62, 32]
  | 2 => [73, 110, 100, 101, 120, 58, 32]
  | 3 => [44, 32, 83, 105, 122, 101, 58, 32]
  | 4 => [73, 110, 100, 101, 120, 58, 32]
  | 5 => [44, 32, 83, 105, 122, 101, 58, 32]
  | 6 => [58, 32]
  | 7 => []
  | 8 => [67, 97, 110, 110, 111, 116, 32, 112, 97, 114, 115, 101, 32, 110, 117, 108, 108, 32, 115, 116, 114, 105, 110, 103]
  | 9 => [114, 97, 100, 105, 120, 32]
  | 10 => [32, 108, 101, 115, 115, 32, 116, 104, 97, 110, 32, 67, 104, 97, 114, 97, 99, 116, 101, 114, 46, 77, 73, 78, 95, 82, 65, 68, 73, 88]
  | 11 => [32, 103, 114, 101, 97, 116, 101, 114, 32, 116, 104, 97, 110, 32, 67, 104, 97, 114, 97, 99, 116, 101, 114, 46, 77, 65, 88, 95, 82, 65, 68, 73, 88]
  | 12 => [70, 111, 114, 32, 105, 110, 112, 117, 116, 32, 115, 116, 114, 105, 110, 103, 58, 32, 34]
  | 13 => [34]
  | 14 => []
  | 15 => [32, 117, 110, 100, 101, 114, 32, 114, 97, 100, 105, 120, 32]
  | 16 => [108, 111, 111, 112]
  | 17 => [117, 110, 114, 101, 99, 111, 103, 110, 105, 122, 101, 100, 32, 98, 97, 115, 105, 99, 32, 116, 121, 112, 101, 58, 32]
  | 18 => [115, 99, 97, 110, 110, 101, 114]
  | 19 => [99, 104, 117, 116, 101]
  | 20 => [114, 111, 117, 110, 100, 115]
  | 21 => [112, 117, 116]
  | 22 => [116, 105, 99, 107]
  | 23 => [115, 108, 105, 112]
  | 24 => [101, 109, 112, 116, 121]
  | 25 => [115, 104, 117, 116]
  | 26 => [111, 112, 101, 110]
  | 27 => [119, 105, 110, 100, 111, 119]
  | 28 => [114, 111, 117, 110, 100, 115]
  | 29 => [83, 111, 114, 114, 121, 44, 32, 100, 101, 113, 117, 101, 32, 116, 111, 111, 32, 98, 105, 103]
  | 30 => [83, 116, 114, 105, 110, 103, 32, 105, 110, 100, 101, 120, 32, 111, 117, 116, 32, 111, 102, 32, 114, 97, 110, 103, 101, 58, 32]
  | 31 => [102, 114, 111, 109, 73, 110, 100, 101, 120, 40]
  | 32 => [41, 32, 62, 32, 116, 111, 73, 110, 100, 101, 120, 40]
  | 33 => [41]
  | 34 => [65, 114, 114, 97, 121, 32, 105, 110, 100, 101, 120, 32, 111, 117, 116, 32, 111, 102, 32, 114, 97, 110, 103, 101, 58, 32]
  | 35 => [108, 111, 111, 112]
  | 36 => [115, 99, 97, 110, 110, 101, 114]
  | 37 => [99, 104, 117, 116, 101]
  | 38 => [114, 111, 117, 110, 100, 115]
  | 39 => [112, 117, 116]
  | 40 => [116, 105, 99, 107]
  | 41 => [115, 108, 105, 112]
  | 42 => [101, 109, 112, 116, 121]
  | 43 => [115, 104, 117, 116]
  | 44 => [111, 112, 101, 110]
  | 45 => [119, 105, 110, 100, 111, 119]
  | _ => []
def kLen (i : Nat) : Int32 := nI (kTx i).length
def kChr (i : Nat) (k : Int32) : Option Int32 := if ¬ (k < 0 ∨ (kTx i).length ≤ k.toNatClampNeg) then (kTx i)[k.toNatClampNeg]? else none
def jKS (G : jG) (σ : jH) : Prop := ∀ i, i < 46 → ∃ a, G.2.2.2 i = some a ∧ a < G.2.2.1 ∧ σ.1 a = some (.inr (4, [], kTx i, 0, 0))
/-- Strings -/
def sLen (σ : jH) (a : Nat) : Option Int32 := match σ.1 a with
  | some (.inr (4, _, xs, _, _)) => some (nI xs.length)
  | _ => none
def sChr (σ : jH) (a : Nat) (k : Int32) : Option Int32 := match σ.1 a with
  | some (.inr (4, _, xs, _, _)) => if ¬ (k < 0 ∨ xs.length ≤ k.toNatClampNeg) then xs[k.toNatClampNeg]? else none
  | _ => none
theorem mH_const {G : jG} {mo : Nat} {A : Nat → Nat} {σ : jH} {M : jM} (h : mOK G mo A) {a : Nat} (ha : a < G.2.2.1) : (mH mo A σ M).1 a = σ.1 a := by
  show (if a = mo then _ else _) = _
  rw [if_neg (fun e => by rw [e] at ha; exact absurd h.1 (Nat.not_le.mpr ha))]
  have h2 : mks.find? (fun j => A j == a) = none := by
    rw [List.find?_eq_none]
    intro j hj hja
    have h5 : A j = a := by simpa using hja
    have h6 := (h.2 j hj).1
    rw [h5] at h6
    exact absurd h6 (Nat.not_le.mpr ha)
  simp only [h2]
