/-! methods with exception tables: what they catch -/
set_option maxRecDepth 100000
/-- after a call that may throw, in a method that catches -/
def tc {α τ : Type} (o : Option (jTh α × jH)) (f : α → jH → Option τ) (h : Nat → Nat → jH → Option τ) : Option τ := o.bind fun y => match y.1 with
  | .inl v => f v y.2
  | .inr x => h x.1 x.2 y.2
section TC
variable {p : Program} {l : Launch} {e : Env} {R : Room} {s : State} {m : MethodId} {args : Array Value} {below : List Frame} {meth : Method} {c : Code} {G : jG} {σ0 σ : jH} {Q : State → Prop}
variable {cc : ByteArray} {nL : Nat} {own : String} {pc : Nat} {ls : Array Slot} {rest : List Value} {τ : Type} {fin : τ → jH} {t : τ}
/-- the frame g, with q of the class k thrown over it -/
def Jx (p : Program) (l : Launch) (e : Env) (R : Room) (s : State) (m : MethodId) (args : Array Value) (below : List Frame) (meth : Method) (c : Code) (G : jG) (σ0 : jH) (Q : State → Prop) (fin : τ → jH) (t : τ) (o : Option τ) (σ : jH) (g : JFrame) (q : Addr) (k : Nat) : Prop :=
  o = some t → jLe σ (fin t) ∧ (jLe σ0 σ → ∀ (E : String) (H : Heap) (locs : List Loc) (ce : Cell), jEx[k]? = some E → jInv G s σ H locs → H[q]? = some ce → ce.vm = .none → s.vm.findClass E = some ce.cls → vx_W p l e R s m args below meth c H locs (σ.2.1 - σ0.2.1) (σ.2.2 - σ0.2.2) Q g q)
theorem Jx.nil_ {g : JFrame} {q : Addr} {k : Nat} : Jx p l e R s m args below meth c G σ0 Q fin t (none : Option τ) σ g q k := fun h => by cases h
theorem Jx.ite {C : Prop} [Decidable C] {A B : Option τ} {g : JFrame} {q : Addr} {k : Nat} (k1 : C → Jx p l e R s m args below meth c G σ0 Q fin t A σ g q k) (k2 : ¬ C → Jx p l e R s m args below meth c G σ0 Q fin t B σ g q k) : Jx p l e R s m args below meth c G σ0 Q fin t (if C then A else B) σ g q k := by
  by_cases hC : C
  · rw [if_pos hC]; exact k1 hC
  · rw [if_neg hC]; exact k2 hC
theorem Jx.catch_ (X : jCx p c cc nL s m args own G meth) {o : Option τ} {q : Addr} {k k' : Nat} {E nm : String} (hk : k = k') (hE : jEx[k']? = some E) (pre : List ExceptionTableEntry) (x : ExceptionTableEntry) (suf : List ExceptionTableEntry) (hsplit : c.exceptionTable.toList = pre ++ x :: suf)
    (hpass : ∀ z ∈ pre, covers z pc = false ∨ (z.catchType ≠ 0 ∧ ∃ nm : String, Cond.classLink own z.catchType nm ∈ lw_all ∧ (E, nm) ∈ jNn)) (hx : covers x pc = true) (h0 : x.catchType ≠ 0)
    (hlink : Cond.classLink own x.catchType nm ∈ lw_all) (hcast : (E, nm) ∈ jNc) (kk : J p l e R s m args below meth c G σ0 Q fin t o σ (F0 m x.handlerPc ls [.ref q])) : Jx p l e R s m args below meth c G σ0 Q fin t o σ (F0 m pc ls rest) q k := by
  intro ho
  obtain ⟨h1, h2⟩ := kk ho
  refine ⟨h1, fun hle E9 H locs ce hE9 hi hcell hv hcl => ?_⟩
  subst hk
  cases hE.symm.trans hE9
  exact vx_catch X.1.2.2.2.1 pre x suf hsplit (fun z hz => (hpass z hz).imp id (fun w => ⟨w.1, w.2.choose, X.1.2.2.2.2 _ w.2.choose_spec.1, X.2.1.2.2.2.2.2.2.2.2.2.2.2.2.1 _ w.2.choose_spec.2⟩)) hx h0 (X.1.2.2.2.2 _ hlink) (va_Nw.use rfl (X.2.1.2.2.2.1 _ hcast)) hcell hv hcl (h2 hle H locs hi)
theorem J.hcall {F L : Nat} {y : MethodName} {ws : List Cond} {α : Type} {ret1 : α → Option Value} {av st : List Value} {oc : Option (jTh α × jH)} {f : α → jH → Option τ} {hd : Nat → Nat → jH → Option τ} (X : jCx p c cc nL s m args own G meth) (hR : R.cells = (fin t).2.1 - σ0.2.1 ∧ R.slots = (fin t).2.2 - σ0.2.2) (K : jTt l G y ws F L ret1 av σ oc)
    (hrun : ∀ (H : Heap) (locs : List Loc) (cells slots mc ms : Nat) (Qc : Array Value → State → Outcome → State → Prop) (XC : String → Addr → State → State → Prop), jInv G s σ H locs → vx_Met l y ws ({ frames := F, cells := mc, slots := ms, locals := L } : Room) (jPc G av σ) Qc XC mc ms (jA G) → cells + mc ≤ R.cells ∧ slots + ms ≤ R.slots → vx_Run p l e R s m args below meth c H locs cells slots mc ms (F0 m pc ls st) rest (Qc av.toArray) XC (jA G))
    (kk : ∀ v σ1, oc = some (.inl v, σ1) → J p l e R s m args below meth c G σ0 Q fin t (f v σ1) σ1 (F0 m (pc + 3) ls ((ret1 v).toList ++ rest)))
    (kh : ∀ k q σ1, oc = some (.inr (k, q), σ1) → Jx p l e R s m args below meth c G σ0 Q fin t (hd k q σ1) σ1 (F0 m pc ls rest) q k) : J p l e R s m args below meth c G σ0 Q fin t (tc oc f hd) σ (F0 m pc ls st) := by
  intro ho
  unfold tc at ho
  cases hoc : oc with
  | none => rw [hoc] at ho; cases ho
  | some rs =>
    rw [hoc, Option.bind_some] at ho
    obtain ⟨hle, hM⟩ := K _ hoc
    obtain ⟨x, σ1⟩ := rs
    have a5 : σ.2.1 ≤ σ1.2.1 := hle.1
    have a6 : σ.2.2 ≤ σ1.2.2 := hle.2
    have back : ∀ {H : Heap} {locs : List Loc}, jInv G s σ H locs → ∀ {st₀ t9 T' : State} {L9 : List Loc}, st₀.heap = H → T'.heap = t9.heap → s.WarmedH t9.vm → (∀ z ∈ L9, jA G z.base) → jSt G σ1 t9 → va_F (jA G) st₀ t9 → jInv G s σ1 T'.heap (locs ++ L9) := by
      intro H locs hi st₀ t9 T' L9 g0 e1 hW hL hst hF
      obtain ⟨hz, hk⟩ := hF
      rw [g0] at hz hk
      have hS := hi.2.1
      have hS' : va_S (jA G) s.heap T'.heap (locs ++ L9) := ⟨Nat.le_trans hS.1 (by rw [e1]; exact hz), fun q h1 h2 => by rw [e1, hk q (Nat.lt_of_lt_of_le h1 hS.1) h2]; exact hS.2.1 q h1 h2, fun q hq => by
        rcases List.mem_append.mp hq with h | h
        · exact hS.2.2 q h
        · exact hL q h⟩
      exact jSt.back hst hW e1.symm hS' hi.2.2.2
    cases x with
    | inl v =>
      obtain ⟨h1, h2⟩ := kk v σ1 hoc ho
      refine ⟨hle.tr h1, fun h0 H locs hi => ?_⟩
      have a1 : σ1.2.1 ≤ (fin t).2.1 := h1.1
      have a2 : σ1.2.2 ≤ (fin t).2.2 := h1.2
      have a3 : σ0.2.1 ≤ σ.2.1 := h0.1
      have a4 : σ0.2.2 ≤ σ.2.2 := h0.2
      intro T hT XX
      rcases hrun H locs _ _ _ _ _ _ hi hM ⟨by rw [hR.1]; show σ.2.1 - σ0.2.1 + (σ1.2.1 - σ.2.1) ≤ _; omega, by rw [hR.2]; show σ.2.2 - σ0.2.2 + (σ1.2.2 - σ.2.2) ≤ _; omega⟩ T hT XX with ⟨v9, st₀, t9, T', L9, g0, X', hL, e1, e2, ⟨v8, hv8, hv, hst, hF⟩, hst9⟩ | ⟨q, st₀, t9, T', L9, E, ce, g0, X', hL, e1, e2, ⟨⟨k, hk, -⟩, -⟩, -⟩
      · cases hv8
        cases hv
        have hi' := back hi g0 e1 (by rw [← e2]; exact X'.warmed) hL hst hF
        obtain ⟨t2, b1, b2⟩ := W.cs (cells' := σ1.2.1 - σ0.2.1) (slots' := σ1.2.2 - σ0.2.2) (by show σ.2.1 - σ0.2.1 + (σ1.2.1 - σ.2.1) = _; omega) (by show σ.2.2 - σ0.2.2 + (σ1.2.2 - σ.2.2) = _; omega) (h2 (h0.tr hle) T'.heap (locs ++ L9) hi') T' rfl X'
        exact ⟨t2, hst9 t2 b1, b2⟩
      · cases hk
    | inr x =>
      obtain ⟨k9, q9⟩ := x
      obtain ⟨h1, h2⟩ := kh k9 q9 σ1 hoc ho
      refine ⟨hle.tr h1, fun h0 H locs hi => ?_⟩
      have a1 : σ1.2.1 ≤ (fin t).2.1 := h1.1
      have a2 : σ1.2.2 ≤ (fin t).2.2 := h1.2
      have a3 : σ0.2.1 ≤ σ.2.1 := h0.1
      have a4 : σ0.2.2 ≤ σ.2.2 := h0.2
      intro T hT XX
      rcases hrun H locs _ _ _ _ _ _ hi hM ⟨by rw [hR.1]; show σ.2.1 - σ0.2.1 + (σ1.2.1 - σ.2.1) ≤ _; omega, by rw [hR.2]; show σ.2.2 - σ0.2.2 + (σ1.2.2 - σ.2.2) ≤ _; omega⟩ T hT XX with ⟨v9, st₀, t9, T', L9, g0, X', hL, e1, e2, ⟨v8, hv8, -⟩, -⟩ | ⟨q, st₀, t9, T', L9, E, ce, g0, X', hL, e1, e2, ⟨⟨k, hk, hE⟩, hst, hF⟩, hce, hcv, hcl, hst9⟩
      · cases hv8
      · cases hk
        have hi' := back hi g0 e1 (by rw [← e2]; exact X'.warmed) hL hst hF
        have c1 : σ.2.1 - σ0.2.1 + (σ1.2.1 - σ.2.1) = σ1.2.1 - σ0.2.1 := by omega
        have c2 : σ.2.2 - σ0.2.2 + (σ1.2.2 - σ.2.2) = σ1.2.2 - σ0.2.2 := by omega
        have X2 : Stand p l e R s m args below meth c T' (locs ++ L9) (σ1.2.1 - σ0.2.1) (σ1.2.2 - σ0.2.2) := by rw [← c1, ← c2]; exact X'
        obtain ⟨t2, b1, b2⟩ := h2 (h0.tr hle) E T'.heap (locs ++ L9) ce hE hi' (by rw [e1]; exact hce) hcv hcl T' rfl X2
        exact ⟨t2, hst9.trans b1, b2⟩
theorem J.hV {F L n maxL index ci : Nat} {y : MethodName} {ws : List Cond} {bytes : ByteArray} {rt : Option FieldType} {α : Type} {ret1 : α → Option Value} {As st : List Value} {oc : Option (jTh α × jH)} {f : α → jH → Option τ} {hd : Nat → Nat → jH → Option τ} (X : jCx p c cc nL s m args own G meth) (hR : R.cells = (fin t).2.1 - σ0.2.1 ∧ R.slots = (fin t).2.2 - σ0.2.2) {a : Nat} {q : vw_C} {r : Option Nat} (K : jTt l G y ws F L ret1 (.ref a :: As) σ oc) (cw : ∀ mc ms, CallW R s args own q.1 index y bytes maxL rt ws ({ frames := F, cells := mc, slots := ms, locals := L } : Room) mc ms n) (ha : rc σ r ci = some a) (hc : jCl[ci]? = some q) (hn : As.length = n) (hsz : ls.size = nL) (hst : st = As.reverse ++ va_rf r :: rest) (hw : (rest.map fun v => v.category).sum ≤ 8) (hdg : decode cc pc = .ok (.invokevirtual index, 3))
    (kk : ∀ v σ1, oc = some (.inl v, σ1) → J p l e R s m args below meth c G σ0 Q fin t (f v σ1) σ1 (F0 m (pc + 3) ls ((ret1 v).toList ++ rest)))
    (kh : ∀ k q σ1, oc = some (.inr (k, q), σ1) → Jx p l e R s m args below meth c G σ0 Q fin t (hd k q σ1) σ1 (F0 m pc ls rest) q k) : J p l e R s m args below meth c G σ0 Q fin t (tc oc f hd) σ (F0 m pc ls st) := by
  obtain ⟨rfl, x9, hx9, hcx⟩ := rc_some ha
  exact J.hcall X hR K (fun H locs cells slots mc ms Qc XC hi hM hf => vx_runV X.1 hM (cw mc ms) ⟨jPc.blind, jIn_cls X.2.1 hi hx9 hcx hc, fun U hU hW => ⟨rfl, hi.st X.2.1 hU hW⟩⟩ rfl hn hsz hst (lv_room hw) hdg hf) kk kh
/-- calls of methods that catch -/
theorem J.cSW {F L n maxL index : Nat} {y : MethodName} {ws : List Cond} {bytes : ByteArray} {rt : Option FieldType} {hh : List (Nat × Nat × Nat × Nat)} {β : Type} {ret : β → Option Value} {As st s2 : List Value} {oc : Option (β × jH)} {r1 : β} {σ1 : jH} {o : Option τ} (X : jCx p c cc nL s m args own G meth) (hR : R.cells = (fin t).2.1 - σ0.2.1 ∧ R.slots = (fin t).2.2 - σ0.2.2) (K : jCt l G y ws F L ret As σ oc) (hoc : oc = some (r1, σ1)) (cw : ∀ mc ms, vx_CSW R s args own index y bytes maxL rt hh ws ({ frames := F, cells := mc, slots := ms, locals := L } : Room) mc ms n) (hn : As.length = n) (hsz : ls.size = nL) (hst : st = As.reverse ++ rest) (hs2 : (ret r1).toList ++ rest = s2) (hw : (rest.map fun v => v.category).sum ≤ 8) (hdg : decode cc pc = .ok (.invokestatic index, 3))
    (kk : J p l e R s m args below meth c G σ0 Q fin t o σ1 (F0 m (pc + 3) ls s2)) : J p l e R s m args below meth c G σ0 Q fin t o σ (F0 m pc ls st) :=
  J.call (d := 3) hR K hoc hs2 (fun H locs cells slots mc ms Qc hi hM hf => vx_runSW X.1 hM (cw mc ms) ⟨jPc.blind, fun U hU hW => ⟨rfl, hi.st X.2.1 hU hW⟩⟩ rfl hn hsz hst (lv_room hw) hdg hf) kk
theorem J.cVW {F L n maxL index ci : Nat} {y : MethodName} {ws : List Cond} {bytes : ByteArray} {rt : Option FieldType} {hh : List (Nat × Nat × Nat × Nat)} {β : Type} {ret : β → Option Value} {As st s2 : List Value} {oc : Option (β × jH)} {r1 : β} {σ1 : jH} {o : Option τ} (X : jCx p c cc nL s m args own G meth) (hR : R.cells = (fin t).2.1 - σ0.2.1 ∧ R.slots = (fin t).2.2 - σ0.2.2) {a : Nat} {q : vw_C} {r : Option Nat} (K : jCt l G y ws F L ret (.ref a :: As) σ oc) (hoc : oc = some (r1, σ1)) (cw : ∀ mc ms, vx_CVW R s args own q.1 index y bytes maxL rt hh ws ({ frames := F, cells := mc, slots := ms, locals := L } : Room) mc ms n) (ha : rc σ r ci = some a) (hc : jCl[ci]? = some q) (hn : As.length = n) (hsz : ls.size = nL) (hst : st = As.reverse ++ va_rf r :: rest) (hs2 : (ret r1).toList ++ rest = s2) (hw : (rest.map fun v => v.category).sum ≤ 8) (hdg : decode cc pc = .ok (.invokevirtual index, 3))
    (kk : J p l e R s m args below meth c G σ0 Q fin t o σ1 (F0 m (pc + 3) ls s2)) : J p l e R s m args below meth c G σ0 Q fin t o σ (F0 m pc ls st) := by
  obtain ⟨rfl, x9, hx9, hcx⟩ := rc_some ha
  exact J.call (d := 3) hR K hoc hs2 (fun H locs cells slots mc ms Qc hi hM hf => vx_runVW X.1 hM (cw mc ms) ⟨jPc.blind, jIn_cls X.2.1 hi hx9 hcx hc, fun U hU hW => ⟨rfl, hi.st X.2.1 hU hW⟩⟩ rfl hn hsz hst (lv_room hw) hdg hf) kk
end TC
theorem Met.ofWFH {l : Launch} {y : MethodName} {ws ws' : List Cond} {rm : Room} {Pc : Array Value → State → Prop} {Qc : Array Value → State → Outcome → State → Prop} {mc ms : Nat} {free : Addr → Prop} {cc : ByteArray} {maxL : Nat} {ret : Option FieldType} {hh : List (Nat × Nat × Nat × Nat)}
    (hy : plainFor y = true) (hw : ws = Cond.codeWith y cc maxL ret hh :: ws')
    (body : ∀ p e s m args below meth c s₁, BodyLoose p l y (headSpec ws rm) cc maxL ret e s m args below meth c s₁ → c.maxLocals = maxL → c.exceptionTable.toList = tableOf hh → Pc args s →
      W p l e (headSpec ws rm).room s m args below meth c s.heap [] 0 0 (MQ below Qc args s mc ms free) (entryFrame m args maxL)) : Met l y ws rm Pc Qc mc ms free := by
  refine MetFree.of_bodySF (code := cc) (maxLocals := maxL) (ret := ret) hy ?_ ?_
  · intro args s m h hn
    obtain ⟨m9, meth, c, hn9, h1, h2, h3, h4, -, h5, h6, -⟩ := Cond.codeWith_spec (atoms_spec (ws := ws) h _ (by rw [hw]; exact List.mem_cons_self))
    cases hn.symm.trans hn9
    exact ⟨meth, c, h1, h2, h3, h4, h5, h6⟩
  · intro p e s m args below meth c s₁ B hml hP _
    have hh0 : s₁.heap = s.heap := by rw [B.state]; rfl
    have htab := vx_table (x := y) B (atoms_spec (ws := ws) B.pre (Cond.codeWith y cc maxL ret hh) (by rw [hw]; exact List.mem_cons_self))
    obtain ⟨t, a1, o, b1, b2, b3⟩ := body p e s m args below meth c s₁ B hml htab hP s₁ hh0 (Stand.of_body B)
    exact ⟨t, o, a1, b1, b2, ⟨b3.1, b3.2⟩⟩
def jWalkH (l : Launch) (G : jG) (y : MethodName) (cc : ByteArray) (maxL : Nat) (rt : Option FieldType) (hh : List (Nat × Nat × Nat × Nat)) (F L : Nat) (lv : List (Nat × Value)) (σ : jH) {τ : Type} (fin : τ → jH) (vr : τ → Option Value) (t : τ) (o : Option τ) : Prop :=
  ∀ (p : Program) (e : Env) (s : State) (m : MethodId) (args : Array Value) (below : List Frame) (meth : Method) (c : Code) (ls : Array Slot),
    jCx p c cc maxL s m args y.cls G meth → meth.sig.returnType = rt → meth.name = y.name → c.exceptionTable.toList = tableOf hh → lv_has ls maxL lv →
    jGo l G F L σ fin vr t p e s m args below meth c o σ (F0 m 0 ls [])
theorem jCt.wrH {l : Launch} {G : jG} {y : MethodName} {cc : ByteArray} {maxL F L : Nat} {rt : Option FieldType} {hh : List (Nat × Nat × Nat × Nat)} {lv : List (Nat × Value)} {av : List Value} {σ : jH} {β : Type} {ret : β → Option Value} {o : Option (β × jH)} (hy : plainFor y = true) (hsl : (lg_sl av).length ≤ maxL) (hlv : lv_args 0 av = lv)
    (h : ∀ t, jWalkH l G y cc maxL rt hh F L lv σ (Prod.snd : β × jH → jH) (fun t => ret t.1) t o) : jCt l G y (wsW_ y cc maxL rt hh) F L ret av σ (jck σ o) := by
  intro rs ho
  obtain ⟨h1, h2⟩ := jck_some ho
  refine ⟨h2, ?_⟩
  refine Met.ofWFH (cc := cc) (maxL := maxL) (ret := rt) (hh := hh) hy rfl ?_
  intro p e s m args below meth c s₁ B hml htab hv
  obtain ⟨rfl, hst⟩ := hv
  have hts := atoms_spec (ws := wsW_ y cc maxL rt hh) B.pre
  have hts : ∀ w ∈ lw_all, w.before _ s = true := fun w h => hts w (List.mem_cons_of_mem _ h)
  have hown : s.vm.findClass y.cls = some m.cls := findClass_of_methodNamed B.named
  have hin : meth.name = y.name := (name_of_methodNamed B.named B.method).1
  have hl := lv_entry av (n := maxL) hsl
  rw [lg_entry_eq]
  generalize (lg_sl av ++ List.replicate (maxL - (lg_sl av).length) Slot.unset).toArray = ls at hl ⊢
  rw [hlv] at hl
  have K := h rs p e s m av.toArray below meth c ls ⟨⟨B.exec, B.bytes, hml, hown, hts⟩, hst.1, B.notSynchronized⟩ B.returns hin htab hl h1
  have K2 := K.2 jLe.rf s.heap [] hst.inv
  rw [Nat.sub_self, Nat.sub_self] at K2
  exact K2
