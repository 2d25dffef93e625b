/-! methods that may throw: contracts, rows, ends -/
set_option maxRecDepth 100000
def jEx : List String := ["java/lang/IllegalArgumentException", "java/lang/IllegalStateException", "java/lang/IndexOutOfBoundsException", "java/util/NoSuchElementException", "SortingLoop$ParseException"]
/-- a value, or a thrown cell: its class by number, its address -/
abbrev jTh (β : Type) : Type := β ⊕ (Nat × Nat)
def jQT (G : jG) {β : Type} (ret : β → Option Value) (rs : jTh β × jH) : Array Value → State → Outcome → State → Prop := fun _ st oc t => ∃ v, rs.1 = .inl v ∧ oc = .returned (ret v) ∧ jSt G rs.2 t ∧ va_F (jA G) st t
def jXT (G : jG) {β : Type} (rs : jTh β × jH) : String → Addr → State → State → Prop := fun E q st t => (∃ k, rs.1 = .inr (k, q) ∧ jEx[k]? = some E) ∧ jSt G rs.2 t ∧ va_F (jA G) st t
def jTt (l : Launch) (G : jG) (y : MethodName) (ws : List Cond) (F L : Nat) {β : Type} (ret : β → Option Value) (av : List Value) (σ : jH) (o : Option (jTh β × jH)) : Prop :=
  ∀ rs : jTh β × jH, o = some rs → jLe σ rs.2 ∧ vx_Met l y ws ({ frames := F, cells := rs.2.2.1 - σ.2.1, slots := rs.2.2.2 - σ.2.2, locals := L } : Room) (jPc G av σ) (jQT G ret rs) (jXT G rs) (rs.2.2.1 - σ.2.1) (rs.2.2.2 - σ.2.2) (jA G)
/-- after a call that may throw -/
def tb {α β : Type} (o : Option (jTh α × jH)) (f : α → jH → Option (jTh β × jH)) : Option (jTh β × jH) := o.bind fun y => match y.1 with
  | .inl v => f v y.2
  | .inr x => some (.inr x, y.2)
def jMQT (below : List Frame) (G : jG) {β : Type} (ret : β → Option Value) (t : jTh β × jH) (args : Array Value) (s : State) (σ0 : jH) : State → Prop := vx_MQ below (jQT G ret t) (jXT G t) args s (t.2.2.1 - σ0.2.1) (t.2.2.2 - σ0.2.2) (jA G)
def tnew (σ : jH) : jH := (σ.1, σ.2.1 + 1, σ.2.2 + 6)
section JT
variable {p : Program} {l : Launch} {e : Env} {R : Room} {s : State} {m : MethodId} {args : Array Value} {below : List Frame} {meth : Method} {c : Code} {G : jG} {σ0 σ : jH}
variable {cc : ByteArray} {nL : Nat} {own : String} {pc : Nat} {ls : Array Slot} {rest : List Value}
variable {β : Type} {ret : β → Option Value} {t : jTh β × jH} {g : JFrame}
/-- an end that returns -/
theorem J.tret {v : β} (k : J p l e R s m args below meth c G σ0 (MQ below (jQ G (ret v) σ) args s (σ.2.1 - σ0.2.1) (σ.2.2 - σ0.2.2) (jA G)) (Prod.snd : β × jH → jH) (v, σ) (some (v, σ)) σ g) : J p l e R s m args below meth c G σ0 (jMQT below G ret t args s σ0) Prod.snd t (some (.inl v, σ)) σ g := by
  intro ho
  cases ho
  obtain ⟨h1, h2⟩ := k rfl
  refine ⟨h1, fun h0 H locs hi => ?_⟩
  refine vx_ret (fun T hT X => ?_)
  obtain ⟨t9, a1, oc, b1, b2, b3, b4⟩ := h2 h0 H locs hi T hT X
  exact ⟨t9, a1, oc, b1, b2, ⟨v, rfl, b3.1, b3.2.1, b3.2.2⟩, b4⟩
/-- 'throw new E()' -/
theorem J.throw0 (X : jCx p c cc nL s m args own G meth) (hl : l.stackTraces = false) (hout : ∀ x ∈ c.exceptionTable.toList, False) (hR : R.cells = t.2.2.1 - σ0.2.1 ∧ R.slots = t.2.2.2 - σ0.2.2) {cls : String} {k ik ic : Nat} (hE : jEx[k]? = some cls) (hcls : Bundle.fit cls = true)
    (hk : Cond.classLink own ik cls ∈ lw_all) (hini : Cond.initialized cls ∈ lw_all) (hat : ∀ w ∈ vx_at0 own ic cls ["java/lang/RuntimeException", "java/lang/Exception"], w.before args s = true) (hgood : (Cond.classLink own ik cls :: Cond.initialized cls :: vx_at0 own ic cls ["java/lang/RuntimeException", "java/lang/Exception"]).all vx_ot = true)
    (hsize : ls.size = nL) (d0 : decode cc pc = .ok (.new ik, 3)) (d3 : decode cc (pc + 3) = .ok (.dup, 1)) (d4 : decode cc (pc + 4) = .ok (.invokespecial ic, 3)) (d7 : decode cc (pc + 7) = .ok (.athrow, 1))
    (hRframes : 5 < R.frames) (hRlocals : (rest.map fun v => v.category).sum + 81 ≤ R.locals) :
    J p l e R s m args below meth c G σ0 (jMQT below G ret t args s σ0) Prod.snd t (some (.inr (k, σ.2.1), tnew σ)) σ (F0 m pc ls rest) := by
  intro ho
  have ht := (Option.some.inj ho).symm
  subst ht
  have hle : jLe σ (tnew σ) := ⟨Nat.le_succ _, Nat.le_add_right _ _⟩
  refine ⟨hle, fun h0 H locs hi => ?_⟩
  have a3 : σ0.2.1 ≤ σ.2.1 := h0.1
  have a4 : σ0.2.2 ≤ σ.2.2 := h0.2
  have hz := hi.2.2.1
  have hX := X.2.1
  refine vx_throw0 X.1.1 X.1.2.1 hl X.1.2.2.2.1 hcls (by decide) (X.1.2.2.2.2 _ hk) (X.1.2.2.2.2 _ hini) hat (fun w hw => List.all_eq_true.mp hgood w hw) hX.2.2.2.2.2.2.2.2.2.1 hX.2.2.2.2.2.2.2.2.2.2.1 hi.2.1 (by rw [X.1.2.2.1]; exact hsize) d0 d3 d4 d7 (fun x hx => (hout x hx).elim) hRframes hRlocals
    (by rw [hR.1]; show σ.2.1 - σ0.2.1 + 1 ≤ σ.2.1 + 1 - σ0.2.1; omega) (by rw [hR.2]; show σ.2.2 - σ0.2.2 + 6 ≤ σ.2.2 + 6 - σ0.2.2; omega) X.2.2 (fun U hW hsz hk9 => ?_) hi.2.1.2.2 (by show σ.2.1 - σ0.2.1 + 1 ≤ σ.2.1 + 1 - σ0.2.1; omega) (by show σ.2.2 - σ0.2.2 + 6 ≤ σ.2.2 + 6 - σ0.2.2; omega)
  have hS := hi.2.1
  have hi2 : jInv G s (tnew σ) U.heap locs := by
    obtain ⟨⟨φ, ws, h1, h2, h3, h4⟩, h5, h6, h7⟩ := hi
    refine ⟨⟨φ, ws, h1, h2, h3.kept (fun k x hx => hk9 x.1 ((h3 k x hx).lt)), h4⟩, ⟨Nat.le_trans h5.1 (by omega), fun q q1 q2 => (hk9 q (Nat.lt_of_lt_of_le q1 h5.1)).trans (h5.2.1 q q1 q2), h5.2.2⟩, ?_, h7⟩
    show U.heap.size = σ.2.1 + 1
    omega
  refine ⟨⟨k, ?_, hE⟩, hi2.st hX rfl hW, va_S.F hi2.2.1 rfl⟩
  rw [hz]
/-- a call that may throw; what it throws goes on to the caller -/
theorem J.tcall {F L : Nat} {y : MethodName} {ws : List Cond} {α : Type} {ret1 : α → Option Value} {av st : List Value} {oc : Option (jTh α × jH)} {f : α → jH → Option (jTh β × jH)} (X : jCx p c cc nL s m args own G meth) (hout : ∀ x ∈ c.exceptionTable.toList, False) (hR : R.cells = t.2.2.1 - σ0.2.1 ∧ R.slots = t.2.2.2 - σ0.2.2) (K : jTt l G y ws F L ret1 av σ oc)
    (hrun : ∀ (H : Heap) (locs : List Loc) (cells slots mc ms : Nat) (Qc : Array Value → State → Outcome → State → Prop) (XC : String → Addr → State → State → Prop), jInv G s σ H locs → vx_Met l y ws ({ frames := F, cells := mc, slots := ms, locals := L } : Room) (jPc G av σ) Qc XC mc ms (jA G) → cells + mc ≤ R.cells ∧ slots + ms ≤ R.slots → vx_Run p l e R s m args below meth c H locs cells slots mc ms (F0 m pc ls st) rest (Qc av.toArray) XC (jA G))
    (kk : ∀ v σ1, oc = some (.inl v, σ1) → J p l e R s m args below meth c G σ0 (jMQT below G ret t args s σ0) Prod.snd t (f v σ1) σ1 (F0 m (pc + 3) ls ((ret1 v).toList ++ rest))) : J p l e R s m args below meth c G σ0 (jMQT below G ret t args s σ0) Prod.snd t (tb oc f) σ (F0 m pc ls st) := by
  intro ho
  unfold tb at ho
  cases hoc : oc with
  | none => rw [hoc] at ho; cases ho
  | some rs =>
    rw [hoc, Option.bind_some] at ho
    obtain ⟨hle, hM⟩ := K _ hoc
    obtain ⟨x, σ1⟩ := rs
    have a5 : σ.2.1 ≤ σ1.2.1 := hle.1
    have a6 : σ.2.2 ≤ σ1.2.2 := hle.2
    cases x with
    | inl v =>
      obtain ⟨h1, h2⟩ := kk v σ1 hoc ho
      refine ⟨hle.tr h1, fun h0 H locs hi => ?_⟩
      have a1 : σ1.2.1 ≤ t.2.2.1 := h1.1
      have a2 : σ1.2.2 ≤ t.2.2.2 := h1.2
      have a3 : σ0.2.1 ≤ σ.2.1 := h0.1
      have a4 : σ0.2.2 ≤ σ.2.2 := h0.2
      intro T hT XX
      rcases hrun H locs _ _ _ _ _ _ hi hM ⟨by rw [hR.1]; show σ.2.1 - σ0.2.1 + (σ1.2.1 - σ.2.1) ≤ _; omega, by rw [hR.2]; show σ.2.2 - σ0.2.2 + (σ1.2.2 - σ.2.2) ≤ _; omega⟩ T hT XX with ⟨v9, st₀, t9, T', L9, g0, X', hL, e1, e2, ⟨v8, hv8, hv, hst, hF⟩, hst9⟩ | ⟨q, st₀, t9, T', L9, E, ce, g0, X', hL, e1, e2, ⟨⟨k, hk, -⟩, -⟩, -⟩
      · cases hv8
        cases hv
        obtain ⟨hz, hk⟩ := hF
        rw [g0] at hz hk
        have hS := hi.2.1
        have hS' : va_S (jA G) s.heap T'.heap (locs ++ L9) := ⟨Nat.le_trans hS.1 (by rw [e1]; exact hz), fun q h1 h2 => by rw [e1, hk q (Nat.lt_of_lt_of_le h1 hS.1) h2]; exact hS.2.1 q h1 h2, fun q hq => by
          rcases List.mem_append.mp hq with h | h
          · exact hS.2.2 q h
          · exact hL q h⟩
        have hi' : jInv G s σ1 T'.heap (locs ++ L9) := jSt.back hst (by rw [← e2]; exact X'.warmed) e1.symm hS' hi.2.2.2
        obtain ⟨t2, b1, b2⟩ := W.cs (cells' := σ1.2.1 - σ0.2.1) (slots' := σ1.2.2 - σ0.2.2) (by show σ.2.1 - σ0.2.1 + (σ1.2.1 - σ.2.1) = _; omega) (by show σ.2.2 - σ0.2.2 + (σ1.2.2 - σ.2.2) = _; omega) (h2 (h0.tr hle) T'.heap (locs ++ L9) hi') T' rfl X'
        exact ⟨t2, hst9 t2 b1, b2⟩
      · cases hk
    | inr x =>
      have ht := (Option.some.inj ho).symm
      subst ht
      refine ⟨hle, fun h0 H locs hi => ?_⟩
      have a3 : σ0.2.1 ≤ σ.2.1 := h0.1
      have a4 : σ0.2.2 ≤ σ.2.2 := h0.2
      intro T hT XX
      rcases hrun H locs _ _ _ _ _ _ hi hM ⟨by rw [hR.1]; show σ.2.1 - σ0.2.1 + (σ1.2.1 - σ.2.1) ≤ σ1.2.1 - σ0.2.1; omega, by rw [hR.2]; show σ.2.2 - σ0.2.2 + (σ1.2.2 - σ.2.2) ≤ σ1.2.2 - σ0.2.2; omega⟩ T hT XX with ⟨v9, st₀, t9, T', L9, g0, X', hL, e1, e2, ⟨v8, hv8, -⟩, -⟩ | ⟨q, st₀, t9, T', L9, E, ce, g0, X', hL, e1, e2, ⟨⟨k, hk, hE⟩, hst, hF⟩, hce, hcv, hcl, hst9⟩
      · cases hv8
      · cases hk
        obtain ⟨hz, hk⟩ := hF
        rw [g0] at hz hk
        have hS := hi.2.1
        have hS' : va_S (jA G) s.heap T'.heap (locs ++ L9) := ⟨Nat.le_trans hS.1 (by rw [e1]; exact hz), fun q h1 h2 => by rw [e1, hk q (Nat.lt_of_lt_of_le h1 hS.1) h2]; exact hS.2.1 q h1 h2, fun q hq => by
          rcases List.mem_append.mp hq with h | h
          · exact hS.2.2 q h
          · exact hL q h⟩
        have hi' : jInv G s σ1 T'.heap (locs ++ L9) := jSt.back hst (by rw [← e2]; exact X'.warmed) e1.symm hS' hi.2.2.2
        obtain ⟨t2, b1, b2⟩ := vx_out (ls := ls) (rest := rest) (pc := pc) (Qc := jQT G ret ((.inr (k, q), σ1) : jTh β × jH)) (XC := jXT G ((.inr (k, q), σ1) : jTh β × jH)) (free := jA G) (fun x hx => (hout x hx).elim) X.2.2 (by rw [e1]; exact hce) hcv hcl (fun U hU hW => ⟨⟨k, rfl, hE⟩, hi'.st X.2.1 hU hW, va_S.F hi'.2.1 hU⟩) hS'.2.2 (mc := σ1.2.1 - σ0.2.1) (ms := σ1.2.2 - σ0.2.2) (by show σ.2.1 - σ0.2.1 + (σ1.2.1 - σ.2.1) ≤ _; omega) (by show σ.2.2 - σ0.2.2 + (σ1.2.2 - σ.2.2) ≤ _; omega) T' rfl X'
        exact ⟨t2, hst9.trans b1, b2⟩
section TCL
variable {F L n maxL index ci : Nat} {y : MethodName} {ws : List Cond} {bytes : ByteArray} {rt : Option FieldType} {α : Type} {ret1 : α → Option Value} {As st : List Value} {oc : Option (jTh α × jH)} {f : α → jH → Option (jTh β × jH)}
theorem J.tV (X : jCx p c cc nL s m args own G meth) (hout : ∀ x ∈ c.exceptionTable.toList, False) (hR : R.cells = t.2.2.1 - σ0.2.1 ∧ R.slots = t.2.2.2 - σ0.2.2) {a : Nat} {q : vw_C} {r : Option Nat} (K : jTt l G y ws F L ret1 (.ref a :: As) σ oc) (cw : ∀ mc ms, CallW R s args own q.1 index y bytes maxL rt ws ({ frames := F, cells := mc, slots := ms, locals := L } : Room) mc ms n) (ha : rc σ r ci = some a) (hc : jCl[ci]? = some q) (hn : As.length = n) (hsz : ls.size = nL) (hst : st = As.reverse ++ va_rf r :: rest) (hw : (rest.map fun v => v.category).sum ≤ 8) (hdg : decode cc pc = .ok (.invokevirtual index, 3))
    (kk : ∀ v σ1, oc = some (.inl v, σ1) → J p l e R s m args below meth c G σ0 (jMQT below G ret t args s σ0) Prod.snd t (f v σ1) σ1 (F0 m (pc + 3) ls ((ret1 v).toList ++ rest))) : J p l e R s m args below meth c G σ0 (jMQT below G ret t args s σ0) Prod.snd t (tb oc f) σ (F0 m pc ls st) := by
  obtain ⟨rfl, x9, hx9, hcx⟩ := rc_some ha
  exact J.tcall X hout hR K (fun H locs cells slots mc ms Qc XC hi hM hf => vx_runV X.1 hM (cw mc ms) ⟨jPc.blind, jIn_cls X.2.1 hi hx9 hcx hc, fun U hU hW => ⟨rfl, hi.st X.2.1 hU hW⟩⟩ rfl hn hsz hst (lv_room hw) hdg hf) kk
theorem J.tS (X : jCx p c cc nL s m args own G meth) (hout : ∀ x ∈ c.exceptionTable.toList, False) (hR : R.cells = t.2.2.1 - σ0.2.1 ∧ R.slots = t.2.2.2 - σ0.2.2) (K : jTt l G y ws F L ret1 As σ oc) (cw : ∀ mc ms, CallB R s args own index y bytes maxL rt ws ({ frames := F, cells := mc, slots := ms, locals := L } : Room) mc ms n ∧ (Cond.static y).before args s = true) (hn : As.length = n) (hsz : ls.size = nL) (hst : st = As.reverse ++ rest) (hw : (rest.map fun v => v.category).sum ≤ 8) (hdg : decode cc pc = .ok (.invokestatic index, 3))
    (kk : ∀ v σ1, oc = some (.inl v, σ1) → J p l e R s m args below meth c G σ0 (jMQT below G ret t args s σ0) Prod.snd t (f v σ1) σ1 (F0 m (pc + 3) ls ((ret1 v).toList ++ rest))) : J p l e R s m args below meth c G σ0 (jMQT below G ret t args s σ0) Prod.snd t (tb oc f) σ (F0 m pc ls st) :=
  J.tcall X hout hR K (fun H locs cells slots mc ms Qc XC hi hM hf => vx_runS X.1 hM (cw mc ms) ⟨jPc.blind, fun U hU hW => ⟨rfl, hi.st X.2.1 hU hW⟩⟩ rfl hn hsz hst (lv_room hw) hdg hf) kk
end TCL
end JT
abbrev jGoT (l : Launch) (G : jG) (F L : Nat) (σ0 : jH) {β : Type} (ret : β → Option Value) (t : jTh β × jH) (p : Program) (e : Env) (s : State) (m : MethodId) (args : Array Value) (below : List Frame) (meth : Method) (c : Code) (o : Option (jTh β × jH)) (σ : jH) (g : JFrame) : Prop :=
  J p l e ({ frames := F, cells := t.2.2.1 - σ0.2.1, slots := t.2.2.2 - σ0.2.2, locals := L } : Room) s m args below meth c G σ0 (jMQT below G ret t args s σ0) Prod.snd t o σ g
def jWalkT (l : Launch) (G : jG) (y : MethodName) (cc : ByteArray) (maxL : Nat) (rt : Option FieldType) (F L : Nat) (lv : List (Nat × Value)) (σ : jH) {β : Type} (ret : β → Option Value) (t : jTh β × jH) (o : Option (jTh β × jH)) : Prop :=
  ∀ (p : Program) (e : Env) (s : State) (m : MethodId) (args : Array Value) (below : List Frame) (meth : Method) (c : Code) (ls : Array Slot),
    jCx p c cc maxL s m args y.cls G meth → meth.sig.returnType = rt → meth.name = y.name → (∀ x ∈ c.exceptionTable.toList, False) → lv_has ls maxL lv →
    jGoT l G F L σ ret t p e s m args below meth c o σ (F0 m 0 ls [])
theorem jTt.wr {l : Launch} {G : jG} {y : MethodName} {cc : ByteArray} {maxL F L : Nat} {rt : Option FieldType} {lv : List (Nat × Value)} {av : List Value} {σ : jH} {β : Type} {ret : β → Option Value} {o : Option (jTh β × jH)} (hy : plainName y.cls = true) (hsl : (lg_sl av).length ≤ maxL) (hlv : lv_args 0 av = lv)
    (h : ∀ t, jWalkT l G y cc maxL rt F L lv σ ret t o) : jTt l G y (ws_ y cc maxL rt) F L ret av σ (jck σ o) := by
  intro rs ho
  obtain ⟨h1, h2⟩ := jck_some ho
  refine ⟨h2, ?_⟩
  refine vx_ofW (cc := cc) (maxL := maxL) (ret := rt) hy rfl ?_
  intro p e s m args below meth c s₁ B hml ht hv
  obtain ⟨rfl, hst⟩ := hv
  have hts := atoms_spec (ws := ws_ y cc maxL rt) B.pre
  have hts : ∀ w ∈ lw_all, w.before _ s = true := fun w h => hts w (List.mem_cons_of_mem _ h)
  have hown : s.vm.findClass y.cls = some m.cls := findClass_of_methodNamed B.named
  have hin : meth.name = y.name := (name_of_methodNamed B.named B.method).1
  have hl := lv_entry av (n := maxL) hsl
  rw [lg_entry_eq]
  generalize (lg_sl av ++ List.replicate (maxL - (lg_sl av).length) Slot.unset).toArray = ls at hl ⊢
  rw [hlv] at hl
  have K := h rs p e s m av.toArray below meth c ls ⟨⟨B.exec, B.bytes, hml, hown, hts⟩, hst.1, B.notSynchronized⟩ B.returns hin ht hl h1
  have K2 := K.2 jLe.rf s.heap [] hst.inv
  rw [Nat.sub_self, Nat.sub_self] at K2
  exact K2
