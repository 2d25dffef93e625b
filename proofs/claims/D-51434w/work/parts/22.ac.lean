/-! System.arraycopy of int rows; a thrown object -/
set_option maxRecDepth 100000
section AC
variable {p : Program} {l : Launch} {e : Env} {R : Room} {s : State} {m : MethodId} {args : Array Value} {below : List Frame} {meth : Method} {c : Code} {G : jG} {σ0 σ : jH} {Q : State → Prop}
variable {cc : ByteArray} {nL : Nat} {own : String} {pc : Nat} {ls : Array Slot} {rest : List Value} {τ : Type} {fin : τ → jH} {t : τ}
theorem J.ac (X : jCx p c cc nL s m args own G meth) {index : Nat} (hl : Cond.methodLink own index arraycopyName ∈ lw_all) {r r2 : Option Nat} {i j n : Int32} (hsz : ls.size = nL) (hfr : 1 ≤ R.frames) (hlo : (rest.map fun v => v.category).sum + (nativeFrameWords "java/lang/System" "arraycopy" 5 + 11) ≤ R.locals) (hdg : decode cc pc = .ok (.invokestatic index, 3)) {f : jH → Option τ}
    (kk : ∀ σ2, acI G σ r i r2 j n = some σ2 → J p l e R s m args below meth c G σ0 Q fin t (f σ2) σ2 (F0 m (pc + 3) ls rest)) : J p l e R s m args below meth c G σ0 Q fin t ((acI G σ r i r2 j n).bind f) σ (F0 m pc ls (.int n :: .int j :: va_rf r2 :: .int i :: va_rf r :: rest)) := by
  refine J.bind fun σ2 h => ?_
  have hk := kk σ2 h
  obtain ⟨a0, a, n0, n1, f, g, rfl, rfl, ha0, ha, hn0, hn1, h1, h2, h3, h4, h5, rfl⟩ := acI_some h
  refine J.up jset_le (fun q h0 H locs hi => ?_) hk
  have nn : ∀ z : Int32, ¬ z < 0 → z.toInt = (z.toNatClampNeg : Int) := by
    intro z hz
    have hz0 : (0 : Int) ≤ z.toInt := by
      have := Int32.not_lt.mp hz
      simpa using Int32.le_iff_toInt_le.mp this
    show z.toInt = ((z.toInt.toNat : Nat) : Int)
    omega
  intro T hT X9
  have hc0 : H[a0]? = some (vp_cell (G.2.1 0) (n0, .inl f)) := jIn_own hi ha0 hn0
  have hc1 : H[a]? = some (vp_cell (G.2.1 0) (n1, .inl g)) := jIn_own hi ha hn1
  have hK := X.2.1.1
  obtain ⟨-, k0, hk0, cm0, hkk0⟩ := (hK.2 0 (G.2.1 0, .int) rfl).1 n0 (fun j => .int (f j))
  obtain ⟨-, k1, hk1, cm1, hkk1⟩ := (hK.2 0 (G.2.1 0, .int) rfl).1 n1 (fun j => .int (g j))
  obtain ⟨vm', X', step⟩ := X9.arraycopy X.1.1 X.1.2.2.2.1 (X.1.2.2.2.2 _ hl) (X.1.2.2.2.2 _ q351) (X.1.2.2.2.2 _ q350) (X.1.2.2.2.2 _ q154) (src := a0) (dst := a) (cs := vp_cell (G.2.1 0) (n0, .inl f)) (cd := vp_cell (G.2.1 0) (n1, .inl g)) (srcPos := i) (destPos := j) (n := n) (by rw [hT]; exact hc0) (by rw [hT]; exact hc1)
    (fun _ h => by cases h) (fun _ h => by cases h) (fun h => by cases h) (fun h => by cases h) hk0 hk1 hkk0 hkk1 (by simp [refKind]) h1 h2 h3
    (by rw [nn i h1, nn n h3]; show ¬ _ > ((arrV (G.2.1 0) n0 (fun j => .int (f j))).slots.size : Int); rw [arrV_size]; omega)
    (by rw [nn j h2, nn n h3]; show ¬ _ > ((arrV (G.2.1 0) n1 (fun j => .int (g j))).slots.size : Int); rw [arrV_size]; omega)
    (fun vm₁ _ z hz => by
      have e : (vp_cell (G.2.1 0) (n0, .inl f)).slots.getD (i.toNatClampNeg + z) .null = .int (f (i.toNatClampNeg + z)) := by
        show (arrV (G.2.1 0) n0 (fun j => .int (f j))).slots.getD _ _ = _
        rw [Array.getD_eq_getD_getElem?, arrV_read _ _ (by omega)]
        rfl
      refine ⟨?_, ?_⟩
      · rw [e]
        rfl
      · rw [e]
        exact trivial)
    (g := F0 m pc ls (.int n :: .int j :: .ref a :: .int i :: .ref a0 :: rest)) rfl (by rw [X.1.2.2.1]; exact hsz) (rest := rest) rfl (by rw [X.1.2.1]; exact hdg) hfr (by show 2 * 0 + _ + _ ≤ _; omega)
  have e1 : copied (vp_cell (G.2.1 0) (n0, .inl f)) (vp_cell (G.2.1 0) (n1, .inl g)) i j n = vp_cell (G.2.1 0) (n1, .inl (va_cpy f g i.toNatClampNeg j.toNatClampNeg n.toNatClampNeg)) := va_copied (fun z => .int z) (G.2.1 0) (G.2.1 0) f g h4
  rw [e1] at X' step
  have hlt : a < H.size := (Array.getElem?_eq_some_iff.mp hc1).1
  have hheap : ((T.setVm vm').setCell a (vp_cell (G.2.1 0) (n1, .inl (va_cpy f g i.toNatClampNeg j.toNatClampNeg n.toNatClampNeg)))).heap = H.setIfInBounds a (vp_cell (G.2.1 0) (n1, .inl (va_cpy f g i.toNatClampNeg j.toNatClampNeg n.toNatClampNeg))) := by rw [← hT]; rfl
  have oq : ∀ q : Nat, q ≠ a → (H.setIfInBounds a (vp_cell (G.2.1 0) (n1, .inl (va_cpy f g i.toNatClampNeg j.toNatClampNeg n.toNatClampNeg))))[q]? = H[q]? := fun q hq => by simp [Array.getElem?_setIfInBounds, Ne.symm hq]
  obtain ⟨t, a1, b1⟩ := q (h0.tr jset_le) _ _ (jInv.set hi ha hn1 (show (H.setIfInBounds a _)[a]? = some _ by simp [Array.getElem?_setIfInBounds, hlt]) (by simp) oq (fun q hq => by
      obtain ⟨z, -, hz⟩ := List.mem_map.mp hq
      rw [← hz])) _ hheap X'
  exact ⟨t, step t a1, b1⟩
end AC
/-- an object of ours, to be thrown -/
def isT (G : jG) (σ : jH) (a ci : Nat) : Option Unit := match σ.1 a with
  | some (.inl (.inl (c, _))) => if c = ci ∧ G.2.2.1 ≤ a then some () else none
  | _ => none
section ATH
variable {p : Program} {l : Launch} {e : Env} {R : Room} {s : State} {m : MethodId} {args : Array Value} {below : List Frame} {meth : Method} {c : Code} {G : jG} {σ0 σ : jH}
variable {cc : ByteArray} {nL : Nat} {own : String} {pc : Nat} {ls : Array Slot} {rest : List Value} {β : Type} {ret : β → Option Value} {t : jTh β × jH}
theorem J.thr (X : jCx p c cc nL s m args own G meth) (hout : ∀ x ∈ c.exceptionTable.toList, False) {k ci a N : Nat} {cls : String} {T : u_T} (hE : jEx[k]? = some cls) (hc : jCl[ci]? = some (cls, T, N)) (hdg : decode cc pc = .ok (.athrow, 1)) :
    J p l e R s m args below meth c G σ0 (jMQT below G ret t args s σ0) Prod.snd t ((isT G σ a ci).bind fun _ => some (.inr (k, a), σ)) σ (F0 m pc ls (.ref a :: rest)) := by
  refine J.bind fun _ h => ?_
  intro ho
  have ht := (Option.some.inj ho).symm
  subst ht
  refine ⟨jLe.rf, fun h0 H locs hi => ?_⟩
  unfold isT at h
  split at h
  · next ci' fs ha =>
    split at h
    · next hc9 =>
      obtain ⟨rfl, han⟩ := hc9
      obtain ⟨r, hr, ce, hce, hcid, hcv, -⟩ := jIn_own hi ha han
      cases hc.symm.trans hr
      have hcl : s.vm.findClass cls = some ce.cls := by rw [hcid]; exact (X.2.1.1.1 _ _ hc).2.1
      have K := vx_out (ls := ls) (rest := rest) (pc := pc) (p := p) (l := l) (e := e) (R := R) (args := args) (below := below) (c := c) (m := m) (Qc := jQT G ret ((.inr (k, a), σ) : jTh β × jH)) (XC := jXT G ((.inr (k, a), σ) : jTh β × jH)) (free := jA G) (fun x hx => (hout x hx).elim) X.2.2 hce hcv hcl (fun U hU hW => ⟨⟨k, rfl, hE⟩, hi.st X.2.1 hU hW, va_S.F hi.2.1 hU⟩) hi.2.1.2.2 (mc := σ.2.1 - σ0.2.1) (ms := σ.2.2 - σ0.2.2) (Nat.le_refl _) (Nat.le_refl _)
      intro T9 hT X9
      obtain ⟨t9, st, hq⟩ := K T9 hT X9
      refine ⟨t9, ?_, hq⟩
      have hdg' : decode c.code pc = .ok (.athrow, 1) := by rw [X.1.2.1]; exact hdg
      have hexec := X.1.1
      jvm_step X9.here [X9.here.top, hexec, hdg', athrow.wp_sem]
      exact st
    · cases h
  · cases h
end ATH
/-! a call of an inherited method that may throw (the kit's va_runU with one case more) -/
section TU
variable {p : Program} {l : Launch} {e : Env} {R : Room} {s : State} {m : MethodId} {args : Array Value} {below : List Frame} {meth : Method} {c : Code} {H : Heap} {locs : List Loc} {cells slots : Nat}
theorem jrunU {x y : MethodName} {bytes cc : ByteArray} {maxL nL mc ms n index : Nat} {ret : Option FieldType} {ws : List Cond} {rm : Room} {Pc : Array Value → State → Prop} {Qc : Array Value → State → Outcome → State → Prop} {XC : String → Addr → State → State → Prop} {free : Addr → Prop} {Ts : List Cond} {own C owner : String} {b : Addr} {As rest : List Value} {g : JFrame}
    (S : CallFix p m c cc nL s args Ts own) (hM : vx_Met l y ws rm Pc Qc XC mc ms free) (cw : va_CU R s args own C owner index x y bytes maxL ret ws rm mc ms n) (hp : PreV s H C b Pc As)
    (hg : g.method = m) (hn : As.length = n) (hsize : g.locals.size = nL) (hstack : g.stack = As.reverse ++ .ref b :: rest) (hW : 2 * g.monitorRoom + (rest.map fun v => v.category).sum ≤ 8) (hdg : decode cc g.pc = .ok (.invokevirtual index, 3)) (hf : cells + mc ≤ R.cells ∧ slots + ms ≤ R.slots) :
    vx_Run p l e R s m args below meth c H locs cells slots mc ms g rest (Qc (Value.ref b :: As).toArray) XC free := by
  obtain ⟨hrc, hrs, hfr, hlo, hws, hcw⟩ := cw.back
  have hini := cw.init
  have hK : vx_Back l R p e below s args y 3 8 (PreOf R mc ms Pc) (PostOf Qc mc ms free) (vx_Post XC mc ms free) := vx_back (bytes := bytes) (maxL := maxL) (ret := ret) hM hp.1 hrc hrs hfr hlo hws hcw (fun a' U hW => word_at hW (Or.inl (by first | rfl | simp [Cond.onTables, Cond.keeps, Cond.steady])) hini)
  obtain ⟨hx, hb, hml, ho, -⟩ := S
  obtain ⟨-, ⟨cellB, hcB, hoB, hclB⟩, hPc⟩ := hp
  intro T hT X
  have hcell : T.heap[b]? = some cellB := by rw [hT]; exact hcB
  obtain ⟨r0, r, hn0, hrm, hstR, hsigR⟩ := cw.decl
  obtain ⟨cn, ck, r1, hcn, hck, hni, hf0, hn1⟩ := Cond.sameMethod_found cw.same
  cases hn0.symm.trans hn1
  obtain ⟨mk, methM, hnamed, hmethM, -, habM⟩ := Cond.instanceMethod_spec cw.inst
  obtain ⟨c2, r2, m2, q1, q2, q3, q4, kP, hkP, hkPi⟩ := Cond.selects_spec cw.sel
  cases hclB.symm.trans q1
  cases hf0.symm.trans q2
  cases hnamed.symm.trans q3
  have hselP : selectMethod e.platform s.vm cellB.cls r0 = .method mk := by rw [Launch.admits_selectMethod X.admits]; exact q4
  have hdg' : decode c.code g.pc = .ok (.invokevirtual index, 3) := by rw [hb]; exact hdg
  obtain ⟨vm₁, X₁, hstep₁⟩ := X.invokevirtualUp hx ho cw.link cw.same cw.notMH hn0 hrm hstR (a := b) (cell := cellB) hcell
    (fun z h => by rw [h] at hoB; cases hoB) hselP hmethM habM hkP hkPi (g := g) hg (argsL := As) (rest := rest) (hn.trans (cw.len _ hsigR)) hstack hdg'
  rcases hK m meth c ⟨T.setVm vm₁, locs, cells, slots⟩ { g with stack := rest } (.invokevirtual index) mk (Value.ref b :: As).toArray X₁ hg (hsize.trans hml.symm) hdg' hW (X₁.named hnamed) ⟨hf.1, hf.2, hPc (T.setVm vm₁) hT X₁.warmed⟩ with ⟨v, ⟨U', l2, c2, s2⟩, X', ⟨g', mk', t, L, e1, e2, hq, h1, hL, h2, h3⟩, hsteps⟩ | ⟨q, ⟨U', l2, c2, s2⟩, X', ⟨g', mk', t, L, E, ce, e1, e2, hq, hce, hcv, hcl, h1, hL, h2, h3⟩, hsteps⟩
  · dsimp only [Pt.U, Pt.locs, Pt.cells, Pt.slots] at X' e1 e2 h1 h2 h3 hsteps
    subst h1; subst h2; subst h3
    exact Or.inl ⟨v, (T.setVm vm₁).calling g' mk' (Value.ref b :: As).toArray, t, U', L, hT, X', hL, e1, e2, hq, fun target h => hstep₁ _ fun acts => by rw [doInvoke_state]; exact hsteps.trans h⟩
  · dsimp only [Pt.U, Pt.locs, Pt.cells, Pt.slots] at X' e1 e2 h1 h2 h3 hsteps hcl
    subst h1; subst h2; subst h3
    exact Or.inr ⟨q, (T.setVm vm₁).calling g' mk' (Value.ref b :: As).toArray, t, U', L, E, ce, hT, X', hL, e1, e2, hq, hce, hcv, vx_cls X₁.warmed hcl, hstep₁ _ fun acts => by rw [doInvoke_state]; exact hsteps⟩
variable {G : jG} {σ0 σ : jH} {cc : ByteArray} {nL : Nat} {own : String} {pc : Nat} {ls : Array Slot} {rest : List Value} {β : Type} {ret : β → Option Value} {t : jTh β × jH}
variable {F L n maxL index ci : Nat} {y x : MethodName} {ws : List Cond} {bytes : ByteArray} {rt : Option FieldType} {α : Type} {ret1 : α → Option Value} {As st : List Value} {oc : Option (jTh α × jH)} {f : α → jH → Option (jTh β × jH)}
theorem J.tU (X : jCx p c cc nL s m args own G meth) (hout : ∀ x ∈ c.exceptionTable.toList, False) (hR : R.cells = t.2.2.1 - σ0.2.1 ∧ R.slots = t.2.2.2 - σ0.2.2) {a : Nat} {q : vw_C} {r : Option Nat} {owner : String} (K : jTt l G y ws F L ret1 (.ref a :: As) σ oc) (cw : ∀ mc ms, va_CU R s args own q.1 owner index x y bytes maxL rt ws ({ frames := F, cells := mc, slots := ms, locals := L } : Room) mc ms n) (ha : rc σ r ci = some a) (hc : jCl[ci]? = some q) (hn : As.length = n) (hsz : ls.size = nL) (hst : st = As.reverse ++ va_rf r :: rest) (hw : (rest.map fun v => v.category).sum ≤ 8) (hdg : decode cc pc = .ok (.invokevirtual index, 3))
    (kk : ∀ v σ1, oc = some (.inl v, σ1) → J p l e R s m args below meth c G σ0 (jMQT below G ret t args s σ0) Prod.snd t (f v σ1) σ1 (F0 m (pc + 3) ls ((ret1 v).toList ++ rest))) : J p l e R s m args below meth c G σ0 (jMQT below G ret t args s σ0) Prod.snd t (tb oc f) σ (F0 m pc ls st) := by
  obtain ⟨rfl, x9, hx9, hcx⟩ := rc_some ha
  exact J.tcall X hout hR K (fun H locs cells slots mc ms Qc XC hi hM hf => jrunU X.1 hM (cw mc ms) ⟨jPc.blind, jIn_cls X.2.1 hi hx9 hcx hc, fun U hU hW => ⟨rfl, hi.st X.2.1 hU hW⟩⟩ rfl hn hsz hst (lv_room hw) hdg hf) kk
end TU
/-! Parcel.isAhead: a call through a class that lands in an interface's default -/
section CD
variable {p : Program} {l : Launch} {e : Env} {R : Room} {s : State} {m : MethodId} {args : Array Value} {below : List Frame} {meth : Method} {c : Code} {G : jG} {σ0 σ : jH} {Q : State → Prop}
variable {cc : ByteArray} {nL : Nat} {pc : Nat} {ls : Array Slot} {rest : List Value} {τ : Type} {fin : τ → jH} {t : τ}
abbrev jAhP : MethodName := ⟨"SortingLoop$Parcel", "isAhead", "(LSortingLoop$Numbered;)Z"⟩
abbrev jAhN : MethodName := ⟨"SortingLoop$Numbered", "isAhead", "(LSortingLoop$Numbered;)Z"⟩
theorem J.cD {F L maxL : Nat} {bytes : ByteArray} {rt : Option FieldType} {β : Type} {ret : β → Option Value} {As st s2 : List Value} {oc : Option (β × jH)} {r1 : β} {σ1 : jH} {o : Option τ} (X : jCx p c cc nL s m args "SortingLoop" G meth) (hR : R.cells = (fin t).2.1 - σ0.2.1 ∧ R.slots = (fin t).2.2 - σ0.2.2) {a : Nat} {r : Option Nat} (K : jCt l G jAhN (ws_ jAhN bytes maxL rt) F L ret (.ref a :: As) σ oc) (hoc : oc = some (r1, σ1)) (hcode : Cond.code jAhN bytes maxL rt ∈ lw_all) (hinst : Cond.instanceMethod jAhN ∈ lw_all) (hini : Cond.initialized "SortingLoop$Numbered" ∈ lw_all) (hroom : F + 1 ≤ R.frames ∧ 8 + (maxL + 11) + L ≤ R.locals) (ha : rc σ r 4 = some a) (hn : As.length = 1) (hsz : ls.size = nL) (hst : st = As.reverse ++ va_rf r :: rest) (hs2 : (ret r1).toList ++ rest = s2) (hw : (rest.map fun v => v.category).sum ≤ 8) (hdg : decode cc pc = .ok (.invokevirtual 396, 3))
    (kk : J p l e R s m args below meth c G σ0 Q fin t o σ1 (F0 m (pc + 3) ls s2)) : J p l e R s m args below meth c G σ0 Q fin t o σ (F0 m pc ls st) := by
  obtain ⟨rfl, x9, hx9, hcx⟩ := rc_some ha
  refine J.call (d := 3) hR K hoc hs2 (fun H locs cells slots mc ms Qc hi hM hf => ?_) kk
  have hjG := X.2.1
  have hK : Back l R p e below s args jAhN 3 8 (PreOf R mc ms (jPc G (.ref a :: As) σ)) (PostOf Qc mc ms (jA G)) := back_of (bytes := bytes) (maxL := maxL) (ret := rt) hM jPc.blind rfl rfl hroom.1 hroom.2 (pay_in X.1.2.2.2.2 (lw_meth hcode)) List.mem_cons_self (fun a' U hW => word_at hW (Or.inl (by first | rfl | simp [Cond.onTables, Cond.keeps, Cond.steady])) (X.1.2.2.2.2 _ hini))
  obtain ⟨cellB, hcB, hoB, hclB⟩ := jIn_cls hjG hi hx9 hcx (q := (RX5, TX5, 10)) rfl
  intro T hT XX
  have w := pay_in hjG.2.2.2.2.2.2.2.2.2.2.2.2.2.1 jSl_g
  obtain ⟨v, vm₁, ⟨U', l2, c2, s2'⟩, hW₁, X', ⟨g', mk, t9, L9, e1, e2, hq, h1, hL, h2, h3⟩, st9⟩ := XX.virtualBackUpD X.1.1 (own := "SortingLoop") (C := "SortingLoop$Parcel") (owner := "SortingLoop$Numbered") (index := 396) (x := jAhP) (y := jAhN) X.1.2.2.2.1 (w _ (List.mem_of_getElem? (i := 6) rfl) args s (State.WarmedH.refl s)) (w _ (List.mem_of_getElem? (i := 7) rfl) args s (State.WarmedH.refl s))
    (va_Nw.use rfl (hjG.2.2.2.2.2.2.2.2.2.2.2.1 jAhN (List.mem_of_getElem? (i := 37) rfl))) (by decide) (show (Cond.landsInDefault "SortingLoop$Parcel" jAhP jAhN).before args s = true from hjG.2.2.2.2.2.2.2.2.2.2.2.2.2.2.1) (X.1.2.2.2.2 _ hinst) hK (b := a) hclB ⟨cellB, by rw [hT]; exact hcB, rfl, hoB⟩ (g := F0 m pc ls st) rfl (by rw [X.1.2.2.1]; exact hsz) (Steps.refl _) (argsL := As) (rest := rest) (fun sig h => by
      rw [hn]
      have h9 : (parseMethodDescriptor jAhP.desc).map (fun d => d.parameters.length) = some 1 := by decide +kernel
      rw [h] at h9
      exact (Option.some.inj h9).symm) hst (lv_room hw) (by rw [X.1.2.1]; exact hdg) (fun vm₁ hW₁ => ⟨hf.1, hf.2, rfl, hi.st hjG hT hW₁⟩)
  dsimp only [Pt.U, Pt.locs, Pt.cells, Pt.slots] at X' e1 e2 h1 h2 h3 st9
  subst h1; subst h2; subst h3
  exact ⟨v, (T.setVm vm₁).calling g' mk (Value.ref a :: As).toArray, t9, U', L9, hT, X', hL, e1, e2, hq, fun target h => st9.trans h⟩
end CD
