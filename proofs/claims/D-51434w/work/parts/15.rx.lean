/-! rows of J: arrays made, casts, constants, calls, ends; a contract out of a walk -/
set_option maxRecDepth 100000
/-- bind of a pair -/
def bd {α β γ : Type} (o : Option (α × β)) (f : α → β → Option γ) : Option γ := o.bind fun y => f y.1 y.2
theorem bd_some {α β γ : Type} (a : α) (b : β) (f : α → β → Option γ) : bd (some (a, b)) f = f a b := rfl
theorem bd_none {α β γ : Type} (f : α → β → Option γ) : bd (none : Option (α × β)) f = none := rfl
/-- guards -/
def jnz {τ : Type} (y : Int32) (f : Unit → Option τ) : Option τ := if y = 0 then none else f ()
def jn64 {τ : Type} (x : UInt64) (f : Unit → Option τ) : Option τ := if x &&& 0x7fffffffffffffff ≤ 0x7ff0000000000000 then f () else none
def jn32 {τ : Type} (x : UInt32) (f : Unit → Option τ) : Option τ := if x &&& 0x7fffffff ≤ 0x7f800000 then f () else none
section JR5
variable {p : Program} {l : Launch} {e : Env} {R : Room} {s : State} {m : MethodId} {args : Array Value} {below : List Frame} {meth : Method} {c : Code} {G : jG} {σ0 σ : jH} {Q : State → Prop}
variable {cc : ByteArray} {nL : Nat} {own : String} {pc : Nat} {ls : Array Slot} {rest : List Value}
variable {τ : Type} {fin : τ → jH} {t : τ}
theorem J.bd' {α β : Type} {σ : jH} {g : JFrame} {o : Option (α × β)} {f : α → β → Option τ} (kk : ∀ a b, o = some (a, b) → J p l e R s m args below meth c G σ0 Q fin t (f a b) σ g) : J p l e R s m args below meth c G σ0 Q fin t (bd o f) σ g :=
  J.bind (γ := α × β) (f := fun y : α × β => f y.1 y.2) fun (y : α × β) hy => kk y.1 y.2 hy
theorem nI'_some {kd : Nat} {n : Int32} {q : Nat} {σ2 : jH} (h : nI' σ kd n = some (q, σ2)) : ¬ n < 0 ∧ n.toNatClampNeg ≤ 65536 ∧ q = σ.2.1 ∧ σ2 = jnew σ (jI kd n.toNatClampNeg (fun _ => 0)) n.toNatClampNeg := by
  unfold nI' at h
  split at h
  · next hc => cases h; exact ⟨hc.1, hc.2, rfl, rfl⟩
  · cases h
theorem jtys_cls {ty : FieldType} {k : Nat} (hG : jGl G s) (hk : (jtys G)[k]? = some (G.2.1 k, ty)) (ho : ∀ C, ty ≠ .object C) {cA : ClassId} (h : s.vm.findClass ("[" ++ ty.toString) = some cA) : cA = G.2.1 k := by
  have h1 := (hG.1.2 k _ hk).2
  have h2 : s.vm.findClass ("[" ++ ty.toString) = some (G.2.1 k) := by
    unfold va_RA at h1
    split at h1
    · next C h9 => exact absurd h9 (ho C)
    · exact h1
  exact Option.some.inj (h.symm.trans h2)
theorem J.nI0 (X : jCx p c cc nL s m args own G meth) (hR : R.cells = (fin t).2.1 - σ0.2.1 ∧ R.slots = (fin t).2.2 - σ0.2.2) {n : Int32} (hdg : decode cc pc = .ok (.newarray .int, 2)) {f : Nat → jH → Option τ}
    (kk : ∀ q σ2, nI' σ 0 n = some (q, σ2) → J p l e R s m args below meth c G σ0 Q fin t (f q σ2) σ2 (F0 m (pc + 2) ls (va_rf (some q) :: rest))) : J p l e R s m args below meth c G σ0 Q fin t (bd (nI' σ 0 n) f) σ (F0 m pc ls (.int n :: rest)) := by
  refine J.bd' fun q σ2 hy => ?_
  obtain ⟨h1, h2, rfl, rfl⟩ := nI'_some hy
  refine J.mk (x := .inr (.inl (0, n.toNatClampNeg, fun _ => 0))) (k := n.toNatClampNeg) (g2 := F0 m (pc + 2) ls (va_rf (some σ.2.1) :: rest)) hR rfl (fun H locs cells slots hi hcells hslots q => ?_) (kk _ _ hy)
  obtain ⟨⟨hx, hb, hml, hown, hts⟩, hG, -⟩ := X
  have hz := hi.2.2.1
  refine va_newaK hx hb (atype := .int) (hts _ q678) rfl hdg rfl h1 rfl (by show _ * 4 ≤ _; omega) hcells hslots rfl fun H1 cA e1 z1 o1 hAr hNm => ?_
  have hcA := jtys_cls (k := 0) (ty := .int) hG rfl (fun C h => by cases h) hNm
  subst hcA
  have q2 := q H1 e1 z1 o1
  rw [← hz] at q2
  exact q2
theorem J.nI1 (X : jCx p c cc nL s m args own G meth) (hR : R.cells = (fin t).2.1 - σ0.2.1 ∧ R.slots = (fin t).2.2 - σ0.2.2) {n : Int32} (hdg : decode cc pc = .ok (.newarray .byte, 2)) {f : Nat → jH → Option τ}
    (kk : ∀ q σ2, nI' σ 1 n = some (q, σ2) → J p l e R s m args below meth c G σ0 Q fin t (f q σ2) σ2 (F0 m (pc + 2) ls (va_rf (some q) :: rest))) : J p l e R s m args below meth c G σ0 Q fin t (bd (nI' σ 1 n) f) σ (F0 m pc ls (.int n :: rest)) := by
  refine J.bd' fun q σ2 hy => ?_
  obtain ⟨h1, h2, rfl, rfl⟩ := nI'_some hy
  refine J.mk (x := .inr (.inl (1, n.toNatClampNeg, fun _ => 0))) (k := n.toNatClampNeg) (g2 := F0 m (pc + 2) ls (va_rf (some σ.2.1) :: rest)) hR rfl (fun H locs cells slots hi hcells hslots q => ?_) (kk _ _ hy)
  obtain ⟨⟨hx, hb, hml, hown, hts⟩, hG, -⟩ := X
  have hz := hi.2.2.1
  refine va_newaK hx hb (atype := .byte) (hts _ q304) rfl hdg rfl h1 rfl (by show _ * 1 ≤ _; omega) hcells hslots rfl fun H1 cA e1 z1 o1 hAr hNm => ?_
  have hcA := jtys_cls (k := 1) (ty := .byte) hG rfl (fun C h => by cases h) hNm
  subst hcA
  have q2 := q H1 e1 z1 o1
  rw [← hz] at q2
  exact q2
theorem J.nI2 (X : jCx p c cc nL s m args own G meth) (hR : R.cells = (fin t).2.1 - σ0.2.1 ∧ R.slots = (fin t).2.2 - σ0.2.2) {n : Int32} (hdg : decode cc pc = .ok (.newarray .boolean, 2)) {f : Nat → jH → Option τ}
    (kk : ∀ q σ2, nI' σ 2 n = some (q, σ2) → J p l e R s m args below meth c G σ0 Q fin t (f q σ2) σ2 (F0 m (pc + 2) ls (va_rf (some q) :: rest))) : J p l e R s m args below meth c G σ0 Q fin t (bd (nI' σ 2 n) f) σ (F0 m pc ls (.int n :: rest)) := by
  refine J.bd' fun q σ2 hy => ?_
  obtain ⟨h1, h2, rfl, rfl⟩ := nI'_some hy
  refine J.mk (x := .inr (.inl (2, n.toNatClampNeg, fun _ => 0))) (k := n.toNatClampNeg) (g2 := F0 m (pc + 2) ls (va_rf (some σ.2.1) :: rest)) hR rfl (fun H locs cells slots hi hcells hslots q => ?_) (kk _ _ hy)
  obtain ⟨⟨hx, hb, hml, hown, hts⟩, hG, -⟩ := X
  have hz := hi.2.2.1
  refine va_newaK hx hb (atype := .boolean) (hts _ q679) rfl hdg rfl h1 rfl (by show _ * 1 ≤ _; omega) hcells hslots rfl fun H1 cA e1 z1 o1 hAr hNm => ?_
  have hcA := jtys_cls (k := 2) (ty := .boolean) hG rfl (fun C h => by cases h) hNm
  subst hcA
  have q2 := q H1 e1 z1 o1
  rw [← hz] at q2
  exact q2
theorem J.nJ' (X : jCx p c cc nL s m args own G meth) (hR : R.cells = (fin t).2.1 - σ0.2.1 ∧ R.slots = (fin t).2.2 - σ0.2.2) {n : Int32} (hdg : decode cc pc = .ok (.newarray .long, 2)) {f : Nat → jH → Option τ}
    (kk : ∀ q σ2, nJ σ n = some (q, σ2) → J p l e R s m args below meth c G σ0 Q fin t (f q σ2) σ2 (F0 m (pc + 2) ls (va_rf (some q) :: rest))) : J p l e R s m args below meth c G σ0 Q fin t (bd (nJ σ n) f) σ (F0 m pc ls (.int n :: rest)) := by
  refine J.bd' fun q σ2 hy => ?_
  have hy0 := hy
  unfold nJ at hy
  split at hy
  · next hc =>
    cases hy
    obtain ⟨h1, h2⟩ := hc
    refine J.mk (x := .inr (.inr (.inl (n.toNatClampNeg, fun _ => 0)))) (k := n.toNatClampNeg) (g2 := F0 m (pc + 2) ls (va_rf (some σ.2.1) :: rest)) hR rfl (fun H locs cells slots hi hcells hslots q => ?_) (kk _ _ hy0)
    obtain ⟨⟨hx, hb, hml, hown, hts⟩, hG, -⟩ := X
    have hz := hi.2.2.1
    refine va_newaK hx hb (atype := .long) (hts _ q3320) rfl hdg rfl h1 rfl (by show _ * 8 ≤ _; omega) hcells hslots rfl fun H1 cA e1 z1 o1 hAr hNm => ?_
    have hcA := jtys_cls (k := 3) (ty := .long) hG rfl (fun C h => by cases h) hNm
    subst hcA
    have q2 := q H1 e1 z1 o1
    rw [← hz] at q2
    exact q2
  · cases hy
theorem J.nR' (X : jCx p c cc nL s m args own G meth) (hR : R.cells = (fin t).2.1 - σ0.2.1 ∧ R.slots = (fin t).2.2 - σ0.2.2) {index : Nat} {n : Int32} (hcl : Cond.classLink own index "java/lang/Object" ∈ lw_all) (hdg : decode cc pc = .ok (.anewarray index, 3)) {f : Nat → jH → Option τ}
    (kk : ∀ q σ2, nR σ n = some (q, σ2) → J p l e R s m args below meth c G σ0 Q fin t (f q σ2) σ2 (F0 m (pc + 3) ls (va_rf (some q) :: rest))) : J p l e R s m args below meth c G σ0 Q fin t (bd (nR σ n) f) σ (F0 m pc ls (.int n :: rest)) := by
  refine J.bd' fun q σ2 hy => ?_
  have hy0 := hy
  unfold nR at hy
  split at hy
  · next hc =>
    cases hy
    obtain ⟨h1, h2⟩ := hc
    refine J.mk (x := .inr (.inr (.inr (n.toNatClampNeg, fun _ => none)))) (k := n.toNatClampNeg) (g2 := F0 m (pc + 3) ls (va_rf (some σ.2.1) :: rest)) hR rfl (fun H locs cells slots hi hcells hslots q => ?_) (kk _ _ hy0)
    obtain ⟨⟨hx, hb, hml, hown, hts⟩, hG, -⟩ := X
    have hz := hi.2.2.1
    refine W.anew hx hb hown (hts _ hcl) (va_AO.use hG.2.2.2.2.2.1) rfl hdg rfl h1 (by omega) hcells hslots fun cA kA comp f1 f2 f3 f4 => ?_
    have hcA : cA = G.2.1 4 := by
      obtain ⟨kA9, comp9, -, -, -, k4⟩ := (hG.1.2 4 (G.2.1 4, .object "java/lang/Object") rfl).2
      exact Option.some.inj (f1.symm.trans k4)
    subst hcA
    have q2 := q (H.push { cls := G.2.1 4, slots := Array.replicate n.toNatClampNeg .null, vm := .none }) (by
      show (H.push _)[H.size]? = some (vp_cell _ _)
      rw [vp_cell_q, Array.getElem?_push_size, arrV_new]; rfl) (by rw [Array.size_push]) (fun q hq => by rw [Array.getElem?_push, if_neg (Nat.ne_of_lt hq)])
    rw [← hz] at q2
    exact q2
  · cases hy
theorem J.nO' (X : jCx p c cc nL s m args own G meth) (hR : R.cells = (fin t).2.1 - σ0.2.1 ∧ R.slots = (fin t).2.2 - σ0.2.2) {ci index N : Nat} {C : String} {T : u_T} (hin : ∀ w ∈ u_ws C T N, w ∈ lw_all) (hc : jCl[ci]? = some (C, T, N)) (ty0 : Nat → FieldType) (hty : ∀ k, k < N → parseFieldDescriptor (T k).2.2.1 = some (ty0 k)) (hcl : Cond.classLink own index C ∈ lw_all) (hinst : Cond.instantiable C N ∈ lw_all) (hini : Cond.initialized C ∈ lw_all) {fs : List Value} (hfs : (List.range N).map (fun j => defaultValue (ty0 j)) = fs) (hdg : decode cc pc = .ok (.new index, 3)) {f : Nat → jH → Option τ}
    (kk : ∀ q σ2, nO σ ci fs N = some (q, σ2) → J p l e R s m args below meth c G σ0 Q fin t (f q σ2) σ2 (F0 m (pc + 3) ls (va_rf (some q) :: rest))) : J p l e R s m args below meth c G σ0 Q fin t (bd (nO σ ci fs N) f) σ (F0 m pc ls rest) := by
  refine J.mk (σ2 := jnew σ (jO ci fs) N) (x := .inl (ci, fs)) (k := N) (g2 := F0 m (pc + 3) ls (va_rf (some σ.2.1) :: rest)) hR rfl (fun H locs cells slots hi hcells hslots q => ?_) (kk _ _ rfl)
  obtain ⟨⟨hx, hb, hml, hown, hts⟩, hG, -⟩ := X
  have hz := hi.2.2.1
  have hKn := hG.1.1 ci _ hc
  refine W.newcK hx hb hown (hts _ hcl) (hts _ hinst) (hts _ hini) rfl hdg hcells hslots hKn.2.1 rfl fun H1 kC hkC e1 z1 o1 => ?_
  have q2 := q H1 ⟨_, hc, (u_born ty0 hts hin hKn hkC e1 hty).to (fun j hj => by
    rw [← hfs]
    simp [vp_V, hj])⟩ z1 o1
  rw [← hz] at q2
  exact q2
/-! casts, constants, statics -/
theorem J.cast (X : jCx p c cc nL s m args own G meth) {index : Nat} {nm : String} {r : Option Nat} {cs : List Nat} (hcl : Cond.classLink own index nm ∈ lw_all) (hcs : ∀ ci ∈ cs, ∃ q : vw_C, jCl[ci]? = some q ∧ (q.1 = nm ∨ (q.1, nm) ∈ jNc)) (hdg : decode cc pc = .ok (.checkcast index, 3)) {f : Unit → Option τ}
    (kk : J p l e R s m args below meth c G σ0 Q fin t (f ()) σ (F0 m (pc + 3) ls (va_rf r :: rest))) : J p l e R s m args below meth c G σ0 Q fin t ((jck' σ r cs).bind f) σ (F0 m pc ls (va_rf r :: rest)) := by
  refine J.bind fun _ h => J.up jLe.rf (fun q h0 H locs hi => ?_) kk
  have q := q h0 H locs hi
  cases r with
  | none => exact lv_castN X.1.1 X.1.2.1 hdg q
  | some a =>
    unfold jck' at h
    dsimp only at h
    split at h
    · next x hx =>
      split at h
      · next ci hci =>
        split at h
        · next hm =>
          obtain ⟨q9, hq, hq2⟩ := hcs ci (by simpa using hm)
          obtain ⟨cell, r1, r2, r3⟩ := jIn_cls X.2.1 hi hx hci hq
          rcases hq2 with hq2 | hq2
          · exact va_castE X.1.1 X.1.2.1 X.1.2.2.2.1 (X.1.2.2.2.2 _ hcl) ⟨cell, r1, r2, by rw [← hq2]; exact r3⟩ hdg q
          · exact va_castY X.1.1 X.1.2.1 X.1.2.2.2.1 (X.1.2.2.2.2 _ hcl) (X.2.1.2.2.2.1 _ hq2) ⟨cell, r1, r2, r3⟩ hdg q
        · cases h
      · cases h
    · cases h
theorem W.ldcS (X : jCx p c cc nL s m args own G meth) {H : Heap} {locs : List Loc} {cells slots : Nat} {index i : Nat} {tx : String} (hi : jSr[i]? = some (own, index, tx)) (hdg : decode cc pc = .ok (.ldc index, 2))
    (k : W p l e R s m args below meth c H locs cells slots Q (F0 m (pc + 2) ls (va_rf (G.2.2.2 i) :: rest))) : W p l e R s m args below meth c H locs cells slots Q (F0 m pc ls rest) := by
  obtain ⟨a, e1, e2⟩ := X.2.1.2.2.2.2.2.2.1 i _ hi
  rw [e1] at k
  exact va_ldcS X.1.1 X.1.2.1 X.1.2.2.2.1 e2 hdg k
theorem J.getsI (X : jCx p c cc nL s m args own G meth) {C n d ref : String} {v : Int32} {index : Nat} (hz : (C, n, d, v) ∈ jZi) (hl : Cond.fieldLink own index ref n d ∈ lw_all) (hsame : ∀ x, s.fieldFound? C n d = some x → s.fieldFound? ref n d = some x) (hdg : decode cc pc = .ok (.getstatic index, 3)) {o : Option τ}
    (kk : J p l e R s m args below meth c G σ0 Q fin t o σ (F0 m (pc + 3) ls (.int v :: rest))) : J p l e R s m args below meth c G σ0 Q fin t o σ (F0 m pc ls rest) :=
  J.up jLe.rf (fun q h0 H locs hi => va_gets X.1.1 X.1.2.1 (X.2.1.2.2.2.2.2.2.2.1 _ hz) hi.2.1 X.1.2.2.2.1 (X.1.2.2.2.2 _ hl) hsame hdg (q h0 H locs hi)) kk
theorem J.getsR (X : jCx p c cc nL s m args own G meth) {C n d ref : String} {i : Nat} {index : Nat} (hz : (C, n, d, i) ∈ jZr) (hl : Cond.fieldLink own index ref n d ∈ lw_all) (hsame : ∀ x, s.fieldFound? C n d = some x → s.fieldFound? ref n d = some x) (hdg : decode cc pc = .ok (.getstatic index, 3)) {o : Option τ}
    (kk : J p l e R s m args below meth c G σ0 Q fin t o σ (F0 m (pc + 3) ls (va_rf (G.2.2.2 i) :: rest))) : J p l e R s m args below meth c G σ0 Q fin t o σ (F0 m pc ls rest) :=
  J.up jLe.rf (fun q h0 H locs hi => va_gets X.1.1 X.1.2.1 (X.2.1.2.2.2.2.2.2.2.2.1 _ hz) hi.2.1 X.1.2.2.2.1 (X.1.2.2.2.2 _ hl) hsame hdg (q h0 H locs hi)) kk
/-! calls -/
theorem J.call {d F L : Nat} {y : MethodName} {ws : List Cond} {β : Type} {ret : β → Option Value} {av : List Value} {oc : Option (β × jH)} {r : β} {σ1 : jH} {o : Option τ} {st s2 : List Value} (hR : R.cells = (fin t).2.1 - σ0.2.1 ∧ R.slots = (fin t).2.2 - σ0.2.2) (K : jCt l G y ws F L ret av σ oc) (hoc : oc = some (r, σ1)) (hs2 : (ret r).toList ++ rest = s2)
    (hrun : ∀ (H : Heap) (locs : List Loc) (cells slots mc ms : Nat) (Qc : Array Value → State → Outcome → State → Prop), jInv G s σ H locs → Met l y ws ({ frames := F, cells := mc, slots := ms, locals := L } : Room) (jPc G av σ) Qc mc ms (jA G) → cells + mc ≤ R.cells ∧ slots + ms ≤ R.slots → jRun d p l e R s m args below meth c H locs cells slots mc ms (F0 m pc ls st) rest (Qc av.toArray) (jA G))
    (kk : J p l e R s m args below meth c G σ0 Q fin t o σ1 (F0 m (pc + d) ls s2)) : J p l e R s m args below meth c G σ0 Q fin t o σ (F0 m pc ls st) := by
  subst hs2
  obtain ⟨hle, hM⟩ := K _ hoc
  intro ho
  obtain ⟨h1, h2⟩ := kk ho
  refine ⟨hle.tr h1, fun h0 H locs hi => ?_⟩
  have a1 : σ1.2.1 ≤ (fin t).2.1 := h1.1
  have a2 : σ1.2.2 ≤ (fin t).2.2 := h1.2
  have a3 : σ0.2.1 ≤ σ.2.1 := h0.1
  have a4 : σ0.2.2 ≤ σ.2.2 := h0.2
  have a5 : σ.2.1 ≤ σ1.2.1 := hle.1
  have a6 : σ.2.2 ≤ σ1.2.2 := hle.2
  intro T hT X
  obtain ⟨v, st₀, t9, T', L9, g0, X', hL, e1, e2, ⟨hv, hst, hF⟩, hst9⟩ := hrun H locs _ _ _ _ _ hi hM ⟨by rw [hR.1]; show σ.2.1 - σ0.2.1 + (σ1.2.1 - σ.2.1) ≤ _; omega, by rw [hR.2]; show σ.2.2 - σ0.2.2 + (σ1.2.2 - σ.2.2) ≤ _; omega⟩ T hT X
  cases hv
  obtain ⟨hz, hk⟩ := hF
  rw [g0] at hz hk
  have hS := hi.2.1
  have hS' : va_S (jA G) s.heap T'.heap (locs ++ L9) := ⟨Nat.le_trans hS.1 (by rw [e1]; exact hz), fun q h1 h2 => by rw [e1, hk q (Nat.lt_of_lt_of_le h1 hS.1) h2]; exact hS.2.1 q h1 h2, fun q hq => by
    rcases List.mem_append.mp hq with h | h
    · exact hS.2.2 q h
    · exact hL q h⟩
  have hi' : jInv G s σ1 T'.heap (locs ++ L9) := jSt.back hst (by rw [← e2]; exact X'.warmed) e1.symm hS' hi.2.2.2
  obtain ⟨t2, b1, b2⟩ := W.cs (cells' := σ1.2.1 - σ0.2.1) (slots' := σ1.2.2 - σ0.2.2) (by show σ.2.1 - σ0.2.1 + (σ1.2.1 - σ.2.1) = _; omega) (by show σ.2.2 - σ0.2.2 + (σ1.2.2 - σ.2.2) = _; omega) (h2 (h0.tr hle) T'.heap (locs ++ L9) hi') T' rfl X'
  exact ⟨t2, hst9 t2 b1, b2⟩
theorem jrd_of {β : Type} {σ : jH} {o : Option β} {v : β} (h : o = some v) : jrd σ o = some (v, σ) := by rw [h]; rfl
section CL
variable {F L n maxL index ci : Nat} {y x : MethodName} {ws : List Cond} {bytes : ByteArray} {rt : Option FieldType} {β : Type} {ret : β → Option Value} {As st s2 : List Value} {host : String} {oc : Option (β × jH)} {r1 : β} {σ1 : jH} {o : Option τ}
theorem J.cV (X : jCx p c cc nL s m args own G meth) (hR : R.cells = (fin t).2.1 - σ0.2.1 ∧ R.slots = (fin t).2.2 - σ0.2.2) {a : Nat} {q : vw_C} {r : Option Nat} (K : jCt l G y ws F L ret (.ref a :: As) σ oc) (hoc : oc = some (r1, σ1)) (cw : ∀ mc ms, CallW R s args own q.1 index y bytes maxL rt ws ({ frames := F, cells := mc, slots := ms, locals := L } : Room) mc ms n) (ha : rc σ r ci = some a) (hc : jCl[ci]? = some q) (hn : As.length = n) (hsz : ls.size = nL) (hst : st = As.reverse ++ va_rf r :: rest) (hs2 : (ret r1).toList ++ rest = s2) (hw : (rest.map fun v => v.category).sum ≤ 8) (hdg : decode cc pc = .ok (.invokevirtual index, 3))
    (kk : J p l e R s m args below meth c G σ0 Q fin t o σ1 (F0 m (pc + 3) ls s2)) : J p l e R s m args below meth c G σ0 Q fin t o σ (F0 m pc ls st) := by
  obtain ⟨rfl, x9, hx9, hcx⟩ := rc_some ha
  exact J.call (d := 3) hR K hoc hs2 (fun H locs cells slots mc ms Qc hi hM hf => va_runV X.1 hM (cw mc ms) ⟨jPc.blind, jIn_cls X.2.1 hi hx9 hcx hc, fun U hU hW => ⟨rfl, hi.st X.2.1 hU hW⟩⟩ rfl hn hsz hst (lv_room hw) hdg hf) kk
theorem J.cVN (X : jCx p c cc nL s m args own G meth) (hR : R.cells = (fin t).2.1 - σ0.2.1 ∧ R.slots = (fin t).2.2 - σ0.2.2) {a : Nat} {q : vw_C} {r : Option Nat} (K : jCt l G y ws F L ret (.ref a :: As) σ oc) (hoc : oc = some (r1, σ1)) (cw : ∀ mc ms, va_CN R s args own index y host bytes maxL rt ws ({ frames := F, cells := mc, slots := ms, locals := L } : Room) mc ms n ∧ (Cond.instanceMethod y).before args s = true ∧ (Cond.selects q.1 y y).before args s = true) (ha : rc σ r ci = some a) (hc : jCl[ci]? = some q) (hn : As.length = n) (hsz : ls.size = nL) (hst : st = As.reverse ++ va_rf r :: rest) (hs2 : (ret r1).toList ++ rest = s2) (hw : (rest.map fun v => v.category).sum ≤ 8) (hdg : decode cc pc = .ok (.invokevirtual index, 3))
    (kk : J p l e R s m args below meth c G σ0 Q fin t o σ1 (F0 m (pc + 3) ls s2)) : J p l e R s m args below meth c G σ0 Q fin t o σ (F0 m pc ls st) := by
  obtain ⟨rfl, x9, hx9, hcx⟩ := rc_some ha
  exact J.call (d := 3) hR K hoc hs2 (fun H locs cells slots mc ms Qc hi hM hf => va_runVN X.1 hM (cw mc ms) ⟨jPc.blind, jIn_cls X.2.1 hi hx9 hcx hc, fun U hU hW => ⟨rfl, hi.st X.2.1 hU hW⟩⟩ rfl hn hsz hst (lv_room hw) hdg hf) kk
theorem J.cU (X : jCx p c cc nL s m args own G meth) (hR : R.cells = (fin t).2.1 - σ0.2.1 ∧ R.slots = (fin t).2.2 - σ0.2.2) {a : Nat} {q : vw_C} {r : Option Nat} {owner : String} (K : jCt l G y ws F L ret (.ref a :: As) σ oc) (hoc : oc = some (r1, σ1)) (cw : ∀ mc ms, va_CU R s args own q.1 owner index x y bytes maxL rt ws ({ frames := F, cells := mc, slots := ms, locals := L } : Room) mc ms n) (ha : rc σ r ci = some a) (hc : jCl[ci]? = some q) (hn : As.length = n) (hsz : ls.size = nL) (hst : st = As.reverse ++ va_rf r :: rest) (hs2 : (ret r1).toList ++ rest = s2) (hw : (rest.map fun v => v.category).sum ≤ 8) (hdg : decode cc pc = .ok (.invokevirtual index, 3))
    (kk : J p l e R s m args below meth c G σ0 Q fin t o σ1 (F0 m (pc + 3) ls s2)) : J p l e R s m args below meth c G σ0 Q fin t o σ (F0 m pc ls st) := by
  obtain ⟨rfl, x9, hx9, hcx⟩ := rc_some ha
  exact J.call (d := 3) hR K hoc hs2 (fun H locs cells slots mc ms Qc hi hM hf => va_runU X.1 hM (cw mc ms) ⟨jPc.blind, jIn_cls X.2.1 hi hx9 hcx hc, fun U hU hW => ⟨rfl, hi.st X.2.1 hU hW⟩⟩ rfl hn hsz hst (lv_room hw) hdg hf) kk
theorem J.cF (X : jCx p c cc nL s m args own G meth) (hR : R.cells = (fin t).2.1 - σ0.2.1 ∧ R.slots = (fin t).2.2 - σ0.2.2) {a : Nat} {q : vw_C} {r : Option Nat} {count : Nat} (K : jCt l G y ws F L ret (.ref a :: As) σ oc) (hoc : oc = some (r1, σ1)) (cw : ∀ mc ms, va_CI R s args own q.1 index x y bytes maxL rt ws ({ frames := F, cells := mc, slots := ms, locals := L } : Room) mc ms n) (ha : rc σ r ci = some a) (hc : jCl[ci]? = some q) (hn : As.length = n) (hsz : ls.size = nL) (hst : st = As.reverse ++ va_rf r :: rest) (hs2 : (ret r1).toList ++ rest = s2) (hw : (rest.map fun v => v.category).sum ≤ 8) (hdg : decode cc pc = .ok (.invokeinterface index count, 5))
    (kk : J p l e R s m args below meth c G σ0 Q fin t o σ1 (F0 m (pc + 5) ls s2)) : J p l e R s m args below meth c G σ0 Q fin t o σ (F0 m pc ls st) := by
  obtain ⟨rfl, x9, hx9, hcx⟩ := rc_some ha
  exact J.call (d := 5) hR K hoc hs2 (fun H locs cells slots mc ms Qc hi hM hf => va_runF (X.2.1.1.1 ci q hc).2 X.1 hM (cw mc ms) ⟨jPc.blind, jIn_cls X.2.1 hi hx9 hcx hc, fun U hU hW => ⟨rfl, hi.st X.2.1 hU hW⟩⟩ rfl hn hsz hst (lv_room hw) hdg hf) kk
theorem J.cS (X : jCx p c cc nL s m args own G meth) (hR : R.cells = (fin t).2.1 - σ0.2.1 ∧ R.slots = (fin t).2.2 - σ0.2.2) (K : jCt l G y ws F L ret As σ oc) (hoc : oc = some (r1, σ1)) (cw : ∀ mc ms, CallB R s args own index y bytes maxL rt ws ({ frames := F, cells := mc, slots := ms, locals := L } : Room) mc ms n ∧ (Cond.static y).before args s = true) (hn : As.length = n) (hsz : ls.size = nL) (hst : st = As.reverse ++ rest) (hs2 : (ret r1).toList ++ rest = s2) (hw : (rest.map fun v => v.category).sum ≤ 8) (hdg : decode cc pc = .ok (.invokestatic index, 3))
    (kk : J p l e R s m args below meth c G σ0 Q fin t o σ1 (F0 m (pc + 3) ls s2)) : J p l e R s m args below meth c G σ0 Q fin t o σ (F0 m pc ls st) := by
  exact J.call (d := 3) hR K hoc hs2 (fun H locs cells slots mc ms Qc hi hM hf => va_runS X.1 hM (cw mc ms) ⟨jPc.blind, fun U hU hW => ⟨rfl, hi.st X.2.1 hU hW⟩⟩ rfl hn hsz hst (lv_room hw) hdg hf) kk
theorem J.cSN (X : jCx p c cc nL s m args own G meth) (hR : R.cells = (fin t).2.1 - σ0.2.1 ∧ R.slots = (fin t).2.2 - σ0.2.2) (K : jCt l G y ws F L ret As σ oc) (hoc : oc = some (r1, σ1)) (cw : ∀ mc ms, va_CN R s args own index y host bytes maxL rt ws ({ frames := F, cells := mc, slots := ms, locals := L } : Room) mc ms n ∧ (Cond.static y).before args s = true ∧ True) (hn : As.length = n) (hsz : ls.size = nL) (hst : st = As.reverse ++ rest) (hs2 : (ret r1).toList ++ rest = s2) (hw : (rest.map fun v => v.category).sum ≤ 8) (hdg : decode cc pc = .ok (.invokestatic index, 3))
    (kk : J p l e R s m args below meth c G σ0 Q fin t o σ1 (F0 m (pc + 3) ls s2)) : J p l e R s m args below meth c G σ0 Q fin t o σ (F0 m pc ls st) := by
  exact J.call (d := 3) hR K hoc hs2 (fun H locs cells slots mc ms Qc hi hM hf => va_runSN X.1 hM (cw mc ms) ⟨jPc.blind, fun U hU hW => ⟨rfl, hi.st X.2.1 hU hW⟩⟩ rfl hn hsz hst (lv_room hw) hdg hf) kk
theorem J.cI (X : jCx p c cc nL s m args own G meth) (hR : R.cells = (fin t).2.1 - σ0.2.1 ∧ R.slots = (fin t).2.2 - σ0.2.2) {a : Nat} (K : jCt l G y ws F L ret (.ref a :: As) σ oc) (hoc : oc = some (r1, σ1)) (cw : ∀ mc ms, CallB R s args own index y bytes maxL none ws ({ frames := F, cells := mc, slots := ms, locals := L } : Room) mc ms n ∧ y.name = "<init>" ∧ (Cond.instanceMethod y).before args s = true) (hn : As.length = n) (hsz : ls.size = nL) (hst : st = As.reverse ++ va_rf (some a) :: rest) (hs2 : (ret r1).toList ++ rest = s2) (hw : (rest.map fun v => v.category).sum ≤ 8) (hdg : decode cc pc = .ok (.invokespecial index, 3))
    (kk : J p l e R s m args below meth c G σ0 Q fin t o σ1 (F0 m (pc + 3) ls s2)) : J p l e R s m args below meth c G σ0 Q fin t o σ (F0 m pc ls st) := by
  exact J.call (d := 3) hR K hoc hs2 (fun H locs cells slots mc ms Qc hi hM hf => va_runI X.1 hM (cw mc ms) ⟨jPc.blind, fun U hU hW => ⟨rfl, hi.st X.2.1 hU hW⟩⟩ rfl hn hsz hst (lv_room hw) hdg hf) kk
theorem J.cIN (X : jCx p c cc nL s m args own G meth) (hR : R.cells = (fin t).2.1 - σ0.2.1 ∧ R.slots = (fin t).2.2 - σ0.2.2) {a : Nat} (K : jCt l G y ws F L ret (.ref a :: As) σ oc) (hoc : oc = some (r1, σ1)) (cw : ∀ mc ms, va_CN R s args own index y host bytes maxL none ws ({ frames := F, cells := mc, slots := ms, locals := L } : Room) mc ms n ∧ y.name = "<init>" ∧ (Cond.instanceMethod y).before args s = true) (hn : As.length = n) (hsz : ls.size = nL) (hst : st = As.reverse ++ va_rf (some a) :: rest) (hs2 : (ret r1).toList ++ rest = s2) (hw : (rest.map fun v => v.category).sum ≤ 8) (hdg : decode cc pc = .ok (.invokespecial index, 3))
    (kk : J p l e R s m args below meth c G σ0 Q fin t o σ1 (F0 m (pc + 3) ls s2)) : J p l e R s m args below meth c G σ0 Q fin t o σ (F0 m pc ls st) := by
  exact J.call (d := 3) hR K hoc hs2 (fun H locs cells slots mc ms Qc hi hM hf => va_runIN X.1 hM (cw mc ms) ⟨jPc.blind, fun U hU hW => ⟨rfl, hi.st X.2.1 hU hW⟩⟩ rfl hn hsz hst (lv_room hw) hdg hf) kk
/-- Object.<init> -/
theorem J.objI (X : jCx p c cc nL s m args own G meth) {idx a : Nat} (hl : Cond.methodLink own idx objectInit ∈ lw_all) (hsz : ls.size = nL) (hdg : decode cc pc = .ok (.invokespecial idx, 3)) (hfr : 1 ≤ R.frames) (hlo : 2 * 0 + (rest.map fun v => v.category).sum + 12 ≤ R.locals) {o : Option τ}
    (kk : J p l e R s m args below meth c G σ0 Q fin t o σ (F0 m (pc + 3) ls rest)) : J p l e R s m args below meth c G σ0 Q fin t o σ (F0 m pc ls (va_rf (some a) :: rest)) :=
  J.pu (fun _ _ _ _ k => W.objInit (a := a) X.1.1 X.1.2.1 X.1.2.2.2.1 (X.1.2.2.2.2 _ hl) (X.1.2.2.2.2 _ q208) (X.1.2.2.2.2 _ q209) rfl (by rw [X.1.2.2.1]; exact hsz) rfl hdg hfr hlo k) kk
end CL
theorem J.ite {C : Prop} [Decidable C] {A B : Option τ} {g : JFrame} (k1 : C → J p l e R s m args below meth c G σ0 Q fin t A σ g) (k2 : ¬ C → J p l e R s m args below meth c G σ0 Q fin t B σ g) : J p l e R s m args below meth c G σ0 Q fin t (if C then A else B) σ g := by
  by_cases hC : C
  · rw [if_pos hC]; exact k1 hC
  · rw [if_neg hC]; exact k2 hC
theorem J.nz {y : Int32} {f : Unit → Option τ} {g : JFrame} (kk : ¬ y = 0 → J p l e R s m args below meth c G σ0 Q fin t (f ()) σ g) : J p l e R s m args below meth c G σ0 Q fin t (jnz y f) σ g := J.ite (fun _ => J.nil_) kk
theorem J.n64 {x : UInt64} {f : Unit → Option τ} {g : JFrame} (kk : vf_n64 x → J p l e R s m args below meth c G σ0 Q fin t (f ()) σ g) : J p l e R s m args below meth c G σ0 Q fin t (jn64 x f) σ g := J.ite kk (fun _ => J.nil_)
theorem J.n32 {x : UInt32} {f : Unit → Option τ} {g : JFrame} (kk : vf_n32 x → J p l e R s m args below meth c G σ0 Q fin t (f ()) σ g) : J p l e R s m args below meth c G σ0 Q fin t (jn32 x f) σ g := J.ite kk (fun _ => J.nil_)
/-! ends -/
section ENDS
variable {vr : τ → Option Value} {w : τ} {g : JFrame}
theorem J.end (h : ∀ (H : Heap) (locs : List Loc) (cells slots : Nat), (∀ T : State, T.heap = H → s.WarmedH T.vm → jQ G (vr w) σ args s (.returned (vr w)) T) → (∀ q ∈ locs, jA G q.base) → W p l e R s m args below meth c H locs cells slots (MQ below (jQ G (vr w) σ) args s cells slots (jA G)) g)
    (hG : jGl G s) (hfin : fin w = σ) : J p l e R s m args below meth c G σ0 (MQ below (jQ G (vr t) (fin t)) args s ((fin t).2.1 - σ0.2.1) ((fin t).2.2 - σ0.2.2) (jA G)) fin t (some w) σ g := by
  intro ho
  cases ho
  rw [hfin]
  refine ⟨jLe.rf, fun h0 H locs hi => h H locs _ _ (fun T hT hW => ⟨rfl, hi.st hG hT hW, ?_⟩) hi.2.1.2.2⟩
  exact va_S.F hi.2.1 hT
theorem J.iret (X : jCx p c cc nL s m args own G meth) (hr : meth.sig.returnType = some .int) {v : Int32} (hfin : fin w = σ) (hv : vr w = some (.int v)) (hdg : decode cc pc = .ok (.ireturn, 1)) :
    J p l e R s m args below meth c G σ0 (MQ below (jQ G (vr t) (fin t)) args s ((fin t).2.1 - σ0.2.1) ((fin t).2.2 - σ0.2.2) (jA G)) fin t (some w) σ (F0 m pc ls [.int v]) :=
  J.end (fun H locs cells slots hq hf => W.iret X.1.1 X.1.2.1 hr (by rw [hv] at hq ⊢; exact hq) hf hdg X.2.2) X.2.1 hfin
theorem J.zret (X : jCx p c cc nL s m args own G meth) {ty : FieldType} (hr : meth.sig.returnType = some ty) {v : Int32} (hn : jnr ty v = true) (hfin : fin w = σ) (hv : vr w = some (.int v)) (hdg : decode cc pc = .ok (.ireturn, 1)) :
    J p l e R s m args below meth c G σ0 (MQ below (jQ G (vr t) (fin t)) args s ((fin t).2.1 - σ0.2.1) ((fin t).2.2 - σ0.2.2) (jA G)) fin t (some w) σ (F0 m pc ls [.int v]) :=
  J.end (fun H locs cells slots hq hf => W.zret X.1.1 X.1.2.1 hr (jnr_eq hn) (by rw [hv] at hq ⊢; exact hq) hf hdg X.2.2) X.2.1 hfin
theorem J.zretb (X : jCx p c cc nL s m args own G meth) {ty : FieldType} (hr : meth.sig.returnType = some ty) {v : Int32} (hfin : fin w = σ) (hv : vr w = some (.int v)) (hdg : decode cc pc = .ok (.ireturn, 1)) :
    J p l e R s m args below meth c G σ0 (MQ below (jQ G (vr t) (fin t)) args s ((fin t).2.1 - σ0.2.1) ((fin t).2.2 - σ0.2.2) (jA G)) fin t (jbo ty v (some w)) σ (F0 m pc ls [.int v]) := by
  unfold jbo
  split
  · next h => exact J.zret X hr h hfin hv hdg
  · exact J.nil_
theorem J.vret (X : jCx p c cc nL s m args own G meth) (hr : meth.sig.returnType = none) (hfin : fin w = σ) (hv : vr w = none) (hdg : decode cc pc = .ok (.return_, 1)) :
    J p l e R s m args below meth c G σ0 (MQ below (jQ G (vr t) (fin t)) args s ((fin t).2.1 - σ0.2.1) ((fin t).2.2 - σ0.2.2) (jA G)) fin t (some w) σ (F0 m pc ls []) :=
  J.end (fun H locs cells slots hq hf => W.vret X.1.1 X.1.2.1 hr (by rw [hv] at hq ⊢; exact hq) hf hdg X.2.2) X.2.1 hfin
theorem J.aret (X : jCx p c cc nL s m args own G meth) {rt : FieldType} (hr : meth.sig.returnType = some rt) (hrt : (∃ n, rt = .object n) ∨ ∃ t, rt = .array t) {r : Option Nat} (hfin : fin w = σ) (hv : vr w = some (va_rf r)) (hdg : decode cc pc = .ok (.areturn, 1)) :
    J p l e R s m args below meth c G σ0 (MQ below (jQ G (vr t) (fin t)) args s ((fin t).2.1 - σ0.2.1) ((fin t).2.2 - σ0.2.2) (jA G)) fin t (some w) σ (F0 m pc ls [va_rf r]) :=
  J.end (fun H locs cells slots hq hf => W.aret X.1.1 X.1.2.1 hr hrt (va_rf_v r) (by rw [hv] at hq ⊢; exact hq) hf hdg X.2.2) X.2.1 hfin
theorem J.dret (X : jCx p c cc nL s m args own G meth) (hr : meth.sig.returnType = some .double) {v : UInt64} (hfin : fin w = σ) (hv : vr w = some (.double v)) (hdg : decode cc pc = .ok (.dreturn, 1)) :
    J p l e R s m args below meth c G σ0 (MQ below (jQ G (vr t) (fin t)) args s ((fin t).2.1 - σ0.2.1) ((fin t).2.2 - σ0.2.2) (jA G)) fin t (some w) σ (F0 m pc ls [.double v]) :=
  J.end (fun H locs cells slots hq hf => W.dret X.1.1 X.1.2.1 hr (by rw [hv] at hq ⊢; exact hq) hf hdg X.2.2) X.2.1 hfin
theorem J.fret (X : jCx p c cc nL s m args own G meth) (hr : meth.sig.returnType = some .float) {v : UInt32} (hfin : fin w = σ) (hv : vr w = some (.float v)) (hdg : decode cc pc = .ok (.freturn, 1)) :
    J p l e R s m args below meth c G σ0 (MQ below (jQ G (vr t) (fin t)) args s ((fin t).2.1 - σ0.2.1) ((fin t).2.2 - σ0.2.2) (jA G)) fin t (some w) σ (F0 m pc ls [.float v]) :=
  J.end (fun H locs cells slots hq hf => W.fret X.1.1 X.1.2.1 hr (by rw [hv] at hq ⊢; exact hq) hf hdg X.2.2) X.2.1 hfin
end ENDS
end JR5
theorem jcI (x : Int32) : (Value.int x).category = 1 := rfl
theorem jcA (x : Nat) : (Value.ref x).category = 1 := rfl
theorem jcJ (x : Int64) : (Value.long x).category = 2 := rfl
theorem jcD (x : UInt64) : (Value.double x).category = 2 := rfl
theorem jcF (x : UInt32) : (Value.float x).category = 1 := rfl
/-! a contract out of a walk -/
theorem Met.ofWF {l : Launch} {y : MethodName} {ws ws' : List Cond} {rm : Room} {Pc : Array Value → State → Prop} {Qc : Array Value → State → Outcome → State → Prop} {mc ms : Nat} {free : Addr → Prop} {cc : ByteArray} {maxL : Nat} {ret : Option FieldType}
    (hy : plainFor y = true) (hw : ws = Cond.code y cc maxL ret :: ws')
    (body : ∀ p e s m args below meth c s₁, BodyLoose p l y (headSpec ws rm) cc maxL ret e s m args below meth c s₁ → c.maxLocals = maxL → Pc args s →
      W p l e (headSpec ws rm).room s m args below meth c s.heap [] 0 0 (MQ below Qc args s mc ms free) (entryFrame m args maxL)) : Met l y ws rm Pc Qc mc ms free := by
  refine MetFree.of_bodySF (code := cc) (maxLocals := maxL) (ret := ret) hy ?_ ?_
  · intro args s m h hn
    obtain ⟨meth, c, h1, h2, h3, h4, h5, h6, -, -⟩ := Cond.code_spec hn (atoms_spec (ws := ws) h _ (by rw [hw]; exact List.mem_cons_self))
    exact ⟨meth, c, h1, h2, h3, h4, h5, h6⟩
  · intro p e s m args below meth c s₁ B hml hP _
    have hh0 : s₁.heap = s.heap := by rw [B.state]; rfl
    obtain ⟨t, a1, o, b1, b2, b3⟩ := body p e s m args below meth c s₁ B hml hP s₁ hh0 (Stand.of_body B)
    exact ⟨t, o, a1, b1, b2, ⟨b3.1, b3.2⟩⟩
/-- a method's judgement -/
abbrev jGo (l : Launch) (G : jG) (F L : Nat) (σ0 : jH) {τ : Type} (fin : τ → jH) (vr : τ → Option Value) (t : τ) (p : Program) (e : Env) (s : State) (m : MethodId) (args : Array Value) (below : List Frame) (meth : Method) (c : Code) (o : Option τ) (σ : jH) (g : JFrame) : Prop :=
  J p l e ({ frames := F, cells := (fin t).2.1 - σ0.2.1, slots := (fin t).2.2 - σ0.2.2, locals := L } : Room) s m args below meth c G σ0 (MQ below (jQ G (vr t) (fin t)) args s ((fin t).2.1 - σ0.2.1) ((fin t).2.2 - σ0.2.2) (jA G)) fin t o σ g
/-- what a walk is given at its start -/
def jWalk (l : Launch) (G : jG) (y : MethodName) (cc : ByteArray) (maxL : Nat) (rt : Option FieldType) (F L : Nat) (lv : List (Nat × Value)) (σ : jH) {τ : Type} (fin : τ → jH) (vr : τ → Option Value) (t : τ) (o : Option τ) : Prop :=
  ∀ (p : Program) (e : Env) (s : State) (m : MethodId) (args : Array Value) (below : List Frame) (meth : Method) (c : Code) (ls : Array Slot),
    jCx p c cc maxL s m args y.cls G meth → meth.sig.returnType = rt → meth.name = y.name → lv_has ls maxL lv →
    jGo l G F L σ fin vr t p e s m args below meth c o σ (F0 m 0 ls [])
/-- .. where the method's name isn't asked for -/
def jWalkN (l : Launch) (G : jG) (own : String) (cc : ByteArray) (maxL : Nat) (rt : Option FieldType) (F L : Nat) (lv : List (Nat × Value)) (σ : jH) {τ : Type} (fin : τ → jH) (vr : τ → Option Value) (t : τ) (o : Option τ) : Prop :=
  ∀ (p : Program) (e : Env) (s : State) (m : MethodId) (args : Array Value) (below : List Frame) (meth : Method) (c : Code) (ls : Array Slot),
    jCx p c cc maxL s m args own G meth → meth.sig.returnType = rt → lv_has ls maxL lv →
    jGo l G F L σ fin vr t p e s m args below meth c o σ (F0 m 0 ls [])
theorem jWalk.met {l : Launch} {G : jG} {y : MethodName} {cc : ByteArray} {maxL F L : Nat} {rt : Option FieldType} {lv : List (Nat × Value)} {av : List Value} {σ : jH} {τ : Type} {fin : τ → jH} {vr : τ → Option Value} {t : τ} {o : Option τ} (hy : plainFor y = true) (hsl : (lg_sl av).length ≤ maxL) (hlv : lv_args 0 av = lv) (ho : o = some t)
    (h : jWalk l G y cc maxL rt F L lv σ fin vr t o) : Met l y (ws_ y cc maxL rt) ({ frames := F, cells := (fin t).2.1 - σ.2.1, slots := (fin t).2.2 - σ.2.2, locals := L } : Room) (jPc G av σ) (jQ G (vr t) (fin t)) ((fin t).2.1 - σ.2.1) ((fin t).2.2 - σ.2.2) (jA G) := by
  refine Met.ofWF (cc := cc) (maxL := maxL) (ret := rt) hy rfl ?_
  intro p e s m args below meth c s₁ B hml hv
  obtain ⟨rfl, hst⟩ := hv
  have hts := atoms_spec (ws := ws_ y cc maxL rt) B.pre
  have hts : ∀ w ∈ lw_all, w.before _ s = true := fun w h => hts w (List.mem_cons_of_mem _ h)
  have hown : s.vm.findClass y.cls = some m.cls := findClass_of_methodNamed B.named
  have hin : meth.name = y.name := (name_of_methodNamed B.named B.method).1
  have hl := lv_entry av (n := maxL) hsl
  rw [lg_entry_eq]
  generalize (lg_sl av ++ List.replicate (maxL - (lg_sl av).length) Slot.unset).toArray = ls at hl ⊢
  rw [hlv] at hl
  have K := h p e s m av.toArray below meth c ls ⟨⟨B.exec, B.bytes, hml, hown, hts⟩, hst.1, B.notSynchronized⟩ B.returns hin hl ho
  have K2 := K.2 jLe.rf s.heap [] hst.inv
  rw [Nat.sub_self, Nat.sub_self] at K2
  exact K2
/-- .. of a reader -/
theorem jCt.rd {l : Launch} {G : jG} {y : MethodName} {cc : ByteArray} {maxL F L : Nat} {rt : Option FieldType} {lv : List (Nat × Value)} {av : List Value} {σ : jH} {β : Type} {ret : β → Option Value} {o : Option β} (hy : plainFor y = true) (hsl : (lg_sl av).length ≤ maxL) (hlv : lv_args 0 av = lv)
    (h : ∀ t, jWalk l G y cc maxL rt F L lv σ (fun _ : β => σ) ret t o) : jCt l G y (ws_ y cc maxL rt) F L ret av σ (jrd σ o) := by
  intro rs ho
  unfold jrd at ho
  cases hb : o with
  | none => rw [hb] at ho; cases ho
  | some r =>
    rw [hb] at ho
    have e : rs = (r, σ) := (Option.some.inj ho).symm
    subst e
    exact ⟨jLe.rf, jWalk.met (fin := fun _ : β => σ) (vr := ret) (t := r) hy hsl hlv hb (h r)⟩
/-- .. of a writer -/
theorem jCt.wr {l : Launch} {G : jG} {y : MethodName} {cc : ByteArray} {maxL F L : Nat} {rt : Option FieldType} {lv : List (Nat × Value)} {av : List Value} {σ : jH} {β : Type} {ret : β → Option Value} {o : Option (β × jH)} (hy : plainFor y = true) (hsl : (lg_sl av).length ≤ maxL) (hlv : lv_args 0 av = lv)
    (h : ∀ t, jWalk l G y cc maxL rt F L lv σ (Prod.snd : β × jH → jH) (fun t => ret t.1) t o) : jCt l G y (ws_ y cc maxL rt) F L ret av σ (jck σ o) := by
  intro rs ho
  obtain ⟨h1, h2⟩ := jck_some ho
  exact ⟨h2, jWalk.met hy hsl hlv h1 (h rs)⟩
