/-! System.arraycopy of byte rows and of rows of objects -/
set_option maxRecDepth 100000
def acB (G : jG) (σ : jH) (r : Option Nat) (i : Int32) (r2 : Option Nat) (j n : Int32) : Option jH := match r, r2 with
  | some a, some b => match σ.1 a, σ.1 b with
    | some (.inl (.inr (.inl (k1, n1, f)))), some (.inl (.inr (.inl (k2, n2, g)))) => if k1 = 1 ∧ k2 = 1 ∧ G.2.2.1 ≤ a ∧ G.2.2.1 ≤ b ∧ ¬ i < 0 ∧ ¬ j < 0 ∧ ¬ n < 0 ∧ i.toNatClampNeg + n.toNatClampNeg ≤ n1 ∧ j.toNatClampNeg + n.toNatClampNeg ≤ n2 ∧ (∀ z, z < n.toNatClampNeg → fits .byte (.int (f (i.toNatClampNeg + z))) = true) then some (jset σ b (jI 1 n2 (va_cpy f g i.toNatClampNeg j.toNatClampNeg n.toNatClampNeg))) else none
    | _, _ => none
  | _, _ => none
theorem acB_some {G : jG} {σ σ2 : jH} {r r2 : Option Nat} {i j n : Int32} (h : acB G σ r i r2 j n = some σ2) : ∃ (a b n1 n2 : Nat) (f g : Nat → Int32), r = some a ∧ r2 = some b ∧ σ.1 a = some (jI 1 n1 f) ∧ σ.1 b = some (jI 1 n2 g) ∧ G.2.2.1 ≤ a ∧ G.2.2.1 ≤ b ∧ ¬ i < 0 ∧ ¬ j < 0 ∧ ¬ n < 0 ∧ i.toNatClampNeg + n.toNatClampNeg ≤ n1 ∧ j.toNatClampNeg + n.toNatClampNeg ≤ n2 ∧ (∀ z, z < n.toNatClampNeg → fits .byte (.int (f (i.toNatClampNeg + z))) = true) ∧ σ2 = jset σ b (jI 1 n2 (va_cpy f g i.toNatClampNeg j.toNatClampNeg n.toNatClampNeg)) := by
  unfold acB at h
  split at h
  · next a b =>
    split at h
    · next k1 n1 f k2 n2 g ha hb =>
      split at h
      · next hc =>
        obtain ⟨rfl, rfl, h1, h2, h3, h4, h5, h6, h7, h8⟩ := hc
        exact ⟨a, b, n1, n2, f, g, rfl, rfl, ha, hb, h1, h2, h3, h4, h5, h6, h7, h8, (Option.some.inj h).symm⟩
      · cases h
    · cases h
  · cases h
section ACB
variable {p : Program} {l : Launch} {e : Env} {R : Room} {s : State} {m : MethodId} {args : Array Value} {below : List Frame} {meth : Method} {c : Code} {G : jG} {σ0 σ : jH} {Q : State → Prop}
variable {cc : ByteArray} {nL : Nat} {own : String} {pc : Nat} {ls : Array Slot} {rest : List Value} {τ : Type} {fin : τ → jH} {t : τ}
theorem J.acB (X : jCx p c cc nL s m args own G meth) {index : Nat} (hl : Cond.methodLink own index arraycopyName ∈ lw_all) {r r2 : Option Nat} {i j n : Int32} (hsz : ls.size = nL) (hfr : 1 ≤ R.frames) (hlo : (rest.map fun v => v.category).sum + (nativeFrameWords "java/lang/System" "arraycopy" 5 + 11) ≤ R.locals) (hdg : decode cc pc = .ok (.invokestatic index, 3)) {f : jH → Option τ}
    (kk : ∀ σ2, acB G σ r i r2 j n = some σ2 → J p l e R s m args below meth c G σ0 Q fin t (f σ2) σ2 (F0 m (pc + 3) ls rest)) : J p l e R s m args below meth c G σ0 Q fin t ((acB G σ r i r2 j n).bind f) σ (F0 m pc ls (.int n :: .int j :: va_rf r2 :: .int i :: va_rf r :: rest)) := by
  refine J.bind fun σ2 h => ?_
  have hk := kk σ2 h
  obtain ⟨a0, a, n0, n1, f, g, rfl, rfl, ha0, ha, hn0, hn1, h1, h2, h3, h4, h5, hfit, rfl⟩ := acB_some h
  refine J.up jset_le (fun q h0 H locs hi => ?_) hk
  have nn : ∀ z : Int32, ¬ z < 0 → z.toInt = (z.toNatClampNeg : Int) := by
    intro z hz
    have hz0 : (0 : Int) ≤ z.toInt := by
      have := Int32.not_lt.mp hz
      simpa using Int32.le_iff_toInt_le.mp this
    show z.toInt = ((z.toInt.toNat : Nat) : Int)
    omega
  intro T hT X9
  have hc0 : H[a0]? = some (vp_cell (G.2.1 1) (n0, .inl f)) := jIn_own hi ha0 hn0
  have hc1 : H[a]? = some (vp_cell (G.2.1 1) (n1, .inl g)) := jIn_own hi ha hn1
  have hK := X.2.1.1
  obtain ⟨-, k0, hk0, cm0, hkk0⟩ := (hK.2 1 (G.2.1 1, .byte) rfl).1 n0 (fun j => .int (f j))
  obtain ⟨-, k1, hk1, cm1, hkk1⟩ := (hK.2 1 (G.2.1 1, .byte) rfl).1 n1 (fun j => .int (g j))
  obtain ⟨vm', X', step⟩ := X9.arraycopy X.1.1 X.1.2.2.2.1 (X.1.2.2.2.2 _ hl) (X.1.2.2.2.2 _ q351) (X.1.2.2.2.2 _ q350) (X.1.2.2.2.2 _ q154) (src := a0) (dst := a) (cs := vp_cell (G.2.1 1) (n0, .inl f)) (cd := vp_cell (G.2.1 1) (n1, .inl g)) (srcPos := i) (destPos := j) (n := n) (by rw [hT]; exact hc0) (by rw [hT]; exact hc1)
    (fun _ h => by cases h) (fun _ h => by cases h) (fun h => by cases h) (fun h => by cases h) hk0 hk1 hkk0 hkk1 (by simp [refKind]) h1 h2 h3
    (by rw [nn i h1, nn n h3]; show ¬ _ > ((arrV (G.2.1 1) n0 (fun j => .int (f j))).slots.size : Int); rw [arrV_size]; omega)
    (by rw [nn j h2, nn n h3]; show ¬ _ > ((arrV (G.2.1 1) n1 (fun j => .int (g j))).slots.size : Int); rw [arrV_size]; omega)
    (fun vm₁ _ z hz => by
      have e : (vp_cell (G.2.1 1) (n0, .inl f)).slots.getD (i.toNatClampNeg + z) .null = .int (f (i.toNatClampNeg + z)) := by
        show (arrV (G.2.1 1) n0 (fun j => .int (f j))).slots.getD _ _ = _
        rw [Array.getD_eq_getD_getElem?, arrV_read _ _ (by omega)]
        rfl
      refine ⟨?_, ?_⟩
      · rw [e]
        exact hfit z hz
      · rw [e]
        exact trivial)
    (g := F0 m pc ls (.int n :: .int j :: .ref a :: .int i :: .ref a0 :: rest)) rfl (by rw [X.1.2.2.1]; exact hsz) (rest := rest) rfl (by rw [X.1.2.1]; exact hdg) hfr (by show 2 * 0 + _ + _ ≤ _; omega)
  have e1 : copied (vp_cell (G.2.1 1) (n0, .inl f)) (vp_cell (G.2.1 1) (n1, .inl g)) i j n = vp_cell (G.2.1 1) (n1, .inl (va_cpy f g i.toNatClampNeg j.toNatClampNeg n.toNatClampNeg)) := va_copied (fun z => .int z) (G.2.1 1) (G.2.1 1) f g h4
  rw [e1] at X' step
  have hlt : a < H.size := (Array.getElem?_eq_some_iff.mp hc1).1
  have hheap : ((T.setVm vm').setCell a (vp_cell (G.2.1 1) (n1, .inl (va_cpy f g i.toNatClampNeg j.toNatClampNeg n.toNatClampNeg)))).heap = H.setIfInBounds a (vp_cell (G.2.1 1) (n1, .inl (va_cpy f g i.toNatClampNeg j.toNatClampNeg n.toNatClampNeg))) := by rw [← hT]; rfl
  have oq : ∀ q : Nat, q ≠ a → (H.setIfInBounds a (vp_cell (G.2.1 1) (n1, .inl (va_cpy f g i.toNatClampNeg j.toNatClampNeg n.toNatClampNeg))))[q]? = H[q]? := fun q hq => by simp [Array.getElem?_setIfInBounds, Ne.symm hq]
  obtain ⟨t, a1, b1⟩ := q (h0.tr jset_le) _ _ (jInv.set hi ha hn1 (show (H.setIfInBounds a _)[a]? = some _ by simp [Array.getElem?_setIfInBounds, hlt]) (by simp) oq (fun q hq => by
      obtain ⟨z, -, hz⟩ := List.mem_map.mp hq
      rw [← hz])) _ hheap X'
  exact ⟨t, step t a1, b1⟩
end ACB
/-- rows of objects -/
def acR (G : jG) (σ : jH) (r : Option Nat) (i : Int32) (r2 : Option Nat) (j n : Int32) : Option jH := match r, r2 with
  | some a, some b => match σ.1 a, σ.1 b with
    | some (.inl (.inr (.inr (.inr (n1, f))))), some (.inl (.inr (.inr (.inr (n2, g))))) => if G.2.2.1 ≤ a ∧ G.2.2.1 ≤ b ∧ ¬ i < 0 ∧ ¬ j < 0 ∧ ¬ n < 0 ∧ i.toNatClampNeg + n.toNatClampNeg ≤ n1 ∧ j.toNatClampNeg + n.toNatClampNeg ≤ n2 ∧ (∀ z, z < n.toNatClampNeg → jok σ (f (i.toNatClampNeg + z)) = true) then some (jset σ b (jR n2 (va_cpy f g i.toNatClampNeg j.toNatClampNeg n.toNatClampNeg))) else none
    | _, _ => none
  | _, _ => none
theorem acR_some {G : jG} {σ σ2 : jH} {r r2 : Option Nat} {i j n : Int32} (h : acR G σ r i r2 j n = some σ2) : ∃ (a b n1 n2 : Nat) (f g : Nat → Option Nat), r = some a ∧ r2 = some b ∧ σ.1 a = some (jR n1 f) ∧ σ.1 b = some (jR n2 g) ∧ G.2.2.1 ≤ a ∧ G.2.2.1 ≤ b ∧ ¬ i < 0 ∧ ¬ j < 0 ∧ ¬ n < 0 ∧ i.toNatClampNeg + n.toNatClampNeg ≤ n1 ∧ j.toNatClampNeg + n.toNatClampNeg ≤ n2 ∧ (∀ z, z < n.toNatClampNeg → jok σ (f (i.toNatClampNeg + z)) = true) ∧ σ2 = jset σ b (jR n2 (va_cpy f g i.toNatClampNeg j.toNatClampNeg n.toNatClampNeg)) := by
  unfold acR at h
  split at h
  · next a b =>
    split at h
    · next n1 f n2 g ha hb =>
      split at h
      · next hc =>
        obtain ⟨h1, h2, h3, h4, h5, h6, h7, h8⟩ := hc
        exact ⟨a, b, n1, n2, f, g, rfl, rfl, ha, hb, h1, h2, h3, h4, h5, h6, h7, h8, (Option.some.inj h).symm⟩
      · cases h
    · cases h
  · cases h
/-- the class object of a row of objects -/
def gC (G : jG) (σ : jH) (r : Option Nat) : Option Unit := match r with
  | none => none
  | some a => match σ.1 a with
    | some (.inl (.inr (.inr (.inr _)))) => if G.2.2.1 ≤ a then some () else none
    | _ => none
section ACR
variable {p : Program} {l : Launch} {e : Env} {R : Room} {s : State} {m : MethodId} {args : Array Value} {below : List Frame} {meth : Method} {c : Code} {G : jG} {σ0 σ : jH} {Q : State → Prop}
variable {cc : ByteArray} {nL : Nat} {own : String} {pc : Nat} {ls : Array Slot} {rest : List Value} {τ : Type} {fin : τ → jH} {t : τ}
theorem jok_cell {H : Heap} {locs : List Loc} (hG : jGl G s) (hi : jInv G s σ H locs) {v : Nat} (hok : jok σ (some v) = true) : ∃ (cellV : Cell) (C : String), H[v]? = some cellV ∧ cellV.vm.isStatics = false ∧ s.vm.findClass C = some cellV.cls ∧ (C, "java/lang/Object") ∈ jNc := by
  obtain ⟨y, hy, ci, hci, hmem⟩ : ∃ y, σ.1 v = some y ∧ ∃ ci, jcls y = some ci ∧ ci ∈ ([1, 3, 4, 9, 10, 11, 12, 13, 14] : List Nat) := by
    unfold jok at hok
    dsimp only at hok
    split at hok
    · next y hy =>
      split at hok
      · next ci hci => exact ⟨y, hy, ci, hci, by simpa using hok⟩
      · cases hok
    · cases hok
  obtain ⟨q, hq, hca⟩ := jok_cls ci hmem
  obtain ⟨cellV, g1, g2, g3⟩ := jIn_cls hG hi hy hci hq
  exact ⟨cellV, q.1, g1, g2, g3, hca⟩
theorem J.acR (X : jCx p c cc nL s m args own G meth) {index : Nat} (hl : Cond.methodLink own index arraycopyName ∈ lw_all) {r r2 : Option Nat} {i j n : Int32} (hsz : ls.size = nL) (hfr : 1 ≤ R.frames) (hlo : (rest.map fun v => v.category).sum + (nativeFrameWords "java/lang/System" "arraycopy" 5 + 11) ≤ R.locals) (hdg : decode cc pc = .ok (.invokestatic index, 3)) {f : jH → Option τ}
    (kk : ∀ σ2, acR G σ r i r2 j n = some σ2 → J p l e R s m args below meth c G σ0 Q fin t (f σ2) σ2 (F0 m (pc + 3) ls rest)) : J p l e R s m args below meth c G σ0 Q fin t ((acR G σ r i r2 j n).bind f) σ (F0 m pc ls (.int n :: .int j :: va_rf r2 :: .int i :: va_rf r :: rest)) := by
  refine J.bind fun σ2 h => ?_
  have hk := kk σ2 h
  obtain ⟨a0, a, n0, n1, f, g, rfl, rfl, ha0, ha, hn0, hn1, h1, h2, h3, h4, h5, hfit, rfl⟩ := acR_some h
  refine J.up jset_le (fun q h0 H locs hi => ?_) hk
  have nn : ∀ z : Int32, ¬ z < 0 → z.toInt = (z.toNatClampNeg : Int) := by
    intro z hz
    have hz0 : (0 : Int) ≤ z.toInt := by
      have := Int32.not_lt.mp hz
      simpa using Int32.le_iff_toInt_le.mp this
    show z.toInt = ((z.toInt.toNat : Nat) : Int)
    omega
  intro T hT X9
  have hc0 : H[a0]? = some (vp_cell (G.2.1 4) (n0, .inr (.inr (.inr (.inr f))))) := jIn_own hi ha0 hn0
  have hc1 : H[a]? = some (vp_cell (G.2.1 4) (n1, .inr (.inr (.inr (.inr g))))) := jIn_own hi ha hn1
  have hK := X.2.1.1
  obtain ⟨-, k0, hk0, cm0, hkk0⟩ := (hK.2 4 (G.2.1 4, .object "java/lang/Object") rfl).1 n0 (fun j => va_rf (f j))
  obtain ⟨-, k1, hk1, cm1, hkk1⟩ := (hK.2 4 (G.2.1 4, .object "java/lang/Object") rfl).1 n1 (fun j => va_rf (g j))
  obtain ⟨vm', X', step⟩ := X9.arraycopy X.1.1 X.1.2.2.2.1 (X.1.2.2.2.2 _ hl) (X.1.2.2.2.2 _ q351) (X.1.2.2.2.2 _ q350) (X.1.2.2.2.2 _ q154) (src := a0) (dst := a) (cs := vp_cell (G.2.1 4) (n0, .inr (.inr (.inr (.inr f))))) (cd := vp_cell (G.2.1 4) (n1, .inr (.inr (.inr (.inr g))))) (srcPos := i) (destPos := j) (n := n) (by rw [hT]; exact hc0) (by rw [hT]; exact hc1)
    (fun _ h => by cases h) (fun _ h => by cases h) (fun h => by cases h) (fun h => by cases h) hk0 hk1 hkk0 hkk1 rfl h1 h2 h3
    (by rw [nn i h1, nn n h3]; show ¬ _ > ((arrV (G.2.1 4) n0 (fun j => va_rf (f j))).slots.size : Int); rw [arrV_size]; omega)
    (by rw [nn j h2, nn n h3]; show ¬ _ > ((arrV (G.2.1 4) n1 (fun j => va_rf (g j))).slots.size : Int); rw [arrV_size]; omega)
    (fun vm₁ hal z hz => by
      have e : (vp_cell (G.2.1 4) (n0, .inr (.inr (.inr (.inr f))))).slots.getD (i.toNatClampNeg + z) .null = va_rf (f (i.toNatClampNeg + z)) := by
        show (arrV (G.2.1 4) n0 (fun j => va_rf (f j))).slots.getD _ _ = _
        rw [Array.getD_eq_getD_getElem?, arrV_read _ _ (by omega)]
        rfl
      rw [e]
      cases hy : f (i.toNatClampNeg + z) with
      | none => exact ⟨rfl, trivial⟩
      | some y =>
        obtain ⟨cellV, C, g1, g2, g3, g4⟩ := jok_cell X.2.1 hi (hy ▸ hfit z hz)
        obtain ⟨kA, comp, r1, r2, r3, -⟩ := (hK.2 4 (G.2.1 4, .object "java/lang/Object") rfl).2
        cases hk1.symm.trans r1
        cases hkk1.symm.trans r2
        obtain ⟨kC, hkC, -⟩ := Vm.findClass_spec g3
        obtain ⟨kE, hkE, -⟩ := Vm.findClass_spec r3
        obtain ⟨kC', hkC', -⟩ := hal.2.2 _ _ hkC
        obtain ⟨kE', hkE', -⟩ := hal.2.2 _ _ hkE
        refine ⟨rfl, cellV, (show T.heap[y]? = some cellV by rw [hT]; exact g1), (fun q h => by rw [h] at g2; cases g2), ⟨kC', hkC'⟩, ?_, ?_⟩
        · exact ⟨kE', hkE'⟩
        · show vm₁.assignable _ _ = true
          rw [hal.assignable]
          obtain ⟨c0, t1, f1, f2, f3⟩ := Cond.castable_spec (va_Nw.use (A := args) rfl (X.2.1.2.2.2.1 _ g4))
          cases g3.symm.trans f1
          cases r3.symm.trans f2
          exact f3)
    (g := F0 m pc ls (.int n :: .int j :: .ref a :: .int i :: .ref a0 :: rest)) rfl (by rw [X.1.2.2.1]; exact hsz) (rest := rest) rfl (by rw [X.1.2.1]; exact hdg) hfr (by show 2 * 0 + _ + _ ≤ _; omega)
  have e1 : copied (vp_cell (G.2.1 4) (n0, .inr (.inr (.inr (.inr f))))) (vp_cell (G.2.1 4) (n1, .inr (.inr (.inr (.inr g))))) i j n = vp_cell (G.2.1 4) (n1, .inr (.inr (.inr (.inr (va_cpy f g i.toNatClampNeg j.toNatClampNeg n.toNatClampNeg))))) := by
    rw [vp_cell_q, vp_cell_q, vp_cell_q]
    exact va_copied (fun z => va_rf z) (G.2.1 4) (G.2.1 4) f g h4
  rw [e1] at X' step
  have hlt : a < H.size := (Array.getElem?_eq_some_iff.mp hc1).1
  have hheap : ((T.setVm vm').setCell a (vp_cell (G.2.1 4) (n1, .inr (.inr (.inr (.inr (va_cpy f g i.toNatClampNeg j.toNatClampNeg n.toNatClampNeg))))))).heap = H.setIfInBounds a (vp_cell (G.2.1 4) (n1, .inr (.inr (.inr (.inr (va_cpy f g i.toNatClampNeg j.toNatClampNeg n.toNatClampNeg)))))) := by rw [← hT]; rfl
  have oq : ∀ q : Nat, q ≠ a → (H.setIfInBounds a (vp_cell (G.2.1 4) (n1, .inr (.inr (.inr (.inr (va_cpy f g i.toNatClampNeg j.toNatClampNeg n.toNatClampNeg)))))))[q]? = H[q]? := fun q hq => by simp [Array.getElem?_setIfInBounds, Ne.symm hq]
  obtain ⟨t, a1, b1⟩ := q (h0.tr jset_le) _ _ (jInv.set hi ha hn1 (show (H.setIfInBounds a _)[a]? = some _ by simp [Array.getElem?_setIfInBounds, hlt]) (by simp) oq (fun q hq => by
      obtain ⟨z, -, hz⟩ := List.mem_map.mp hq
      rw [← hz])) _ hheap X'
  exact ⟨t, step t a1, b1⟩
/-- getClass() of a row of objects -/
theorem J.getC (X : jCx p c cc nL s m args own G meth) {index : Nat} (hl : Cond.methodLink own index ⟨"java/lang/Object", "getClass", "()Ljava/lang/Class;"⟩ ∈ lw_all) {r : Option Nat} (hsz : ls.size = nL) (hfr : 1 ≤ R.frames) (hlo : (rest.map fun v => v.category).sum + 14 ≤ R.locals) (hdg : decode cc pc = .ok (.invokevirtual index, 3)) {f : Unit → Option τ}
    (kk : J p l e R s m args below meth c G σ0 Q fin t (f ()) σ (F0 m (pc + 3) ls (va_rf (G.2.2.2 109) :: rest))) : J p l e R s m args below meth c G σ0 Q fin t ((gC G σ r).bind f) σ (F0 m pc ls (va_rf r :: rest)) := by
  refine J.bind fun _ h => ?_
  unfold gC at h
  split at h
  · cases h
  · next a =>
    split at h
    · next q9 ha =>
      split at h
      · next han =>
        intro ho
        refine ⟨(kk ho).1, fun h0 H locs hi => ?_⟩
        obtain ⟨n9, f9⟩ := q9
        have hat : H[a]? = some (arrV (G.2.1 4) n9 (fun q => va_rf (f9 q))) := jIn_own hi ha han
        obtain ⟨mi, hm1, hm2⟩ := X.2.1.2.2.2.2.2.2.2.2.2.2.2.2.2.2.2.1
        have k := (kk ho).2 h0 H locs hi
        rw [hm1] at k
        exact va_getC X.1.1 X.1.2.1 (by rw [X.1.2.2.1]; exact hsz.symm) X.1.2.2.2.1 (X.1.2.2.2.2 _ hl) (va_Nw.use rfl (X.2.1.2.2.2.2.2.2.2.2.2.2.2.1 ⟨"java/lang/Object", "getClass", "()Ljava/lang/Class;"⟩ (List.mem_of_getElem? (i := 41) rfl))) (X.1.2.2.2.2 _ q3393) (X.1.2.2.2.2 _ q604) (X.1.2.2.2.2 _ q640) hm2 ⟨_, hat, rfl, va_nmO (X.2.1.1.2 4 (G.2.1 4, .object "java/lang/Object") rfl).2 rfl⟩ hfr hlo hdg k
      · cases h
    · cases h
/-- the class Object[] as a constant -/
theorem J.ldcM (X : jCx p c cc nL s m args own G meth) {index : Nat} (hl : Cond.classLink own index "[Ljava/lang/Object;" ∈ lw_all) (hdg : decode cc pc = .ok (.ldc index, 2)) {o : Option τ}
    (kk : J p l e R s m args below meth c G σ0 Q fin t o σ (F0 m (pc + 2) ls (va_rf (G.2.2.2 109) :: rest))) : J p l e R s m args below meth c G σ0 Q fin t o σ (F0 m pc ls rest) := by
  obtain ⟨mi, hm1, hm2⟩ := X.2.1.2.2.2.2.2.2.2.2.2.2.2.2.2.2.2.1
  rw [hm1] at kk
  exact J.pu (fun _ _ _ _ k => va_ldcM X.1.1 X.1.2.1 X.1.2.2.2.1 (X.1.2.2.2.2 _ hl) hm2 hdg k) kk
end ACR
/-! a call of the superclass's own method, instanceof String, a cast to byte[] -/
section CSU
variable {p : Program} {l : Launch} {e : Env} {R : Room} {s : State} {m : MethodId} {args : Array Value} {below : List Frame} {meth : Method} {c : Code} {G : jG} {σ0 σ : jH} {Q : State → Prop}
variable {cc : ByteArray} {nL : Nat} {own : String} {pc : Nat} {ls : Array Slot} {rest : List Value} {τ : Type} {fin : τ → jH} {t : τ}
theorem J.cSU {F L n maxL index ci : Nat} {y : MethodName} {ws : List Cond} {bytes : ByteArray} {rt : Option FieldType} {β : Type} {ret : β → Option Value} {As st s2 : List Value} {oc : Option (β × jH)} {r1 : β} {σ1 : jH} {o : Option τ} (X : jCx p c cc nL s m args own G meth) (hR : R.cells = (fin t).2.1 - σ0.2.1 ∧ R.slots = (fin t).2.2 - σ0.2.2) {a : Nat} {q : vw_C} {r : Option Nat} (K : jCt l G y ws F L ret (.ref a :: As) σ oc) (hoc : oc = some (r1, σ1)) (cw : ∀ mc ms, va_CS R s args own index y bytes maxL rt ws ({ frames := F, cells := mc, slots := ms, locals := L } : Room) mc ms n) (ha : rc σ r ci = some a) (hc : jCl[ci]? = some q) (hn : As.length = n) (hsz : ls.size = nL) (hst : st = As.reverse ++ va_rf r :: rest) (hs2 : (ret r1).toList ++ rest = s2) (hw : (rest.map fun v => v.category).sum ≤ 8) (hdg : decode cc pc = .ok (.invokespecial index, 3))
    (kk : J p l e R s m args below meth c G σ0 Q fin t o σ1 (F0 m (pc + 3) ls s2)) : J p l e R s m args below meth c G σ0 Q fin t o σ (F0 m pc ls st) := by
  obtain ⟨rfl, x9, hx9, hcx⟩ := rc_some ha
  exact J.call (d := 3) hR K hoc hs2 (fun H locs cells slots mc ms Qc hi hM hf => va_runSU (X.2.1.1.1 ci q hc).2 X.1 hM (cw mc ms) ⟨jPc.blind, jIn_cls X.2.1 hi hx9 hcx hc, fun U hU hW => ⟨rfl, hi.st X.2.1 hU hW⟩⟩ rfl hn hsz hst (lv_room hw) hdg hf) kk
/-- the constant of class CharacterDataLatin1 -/
def cdr (G : jG) (r : Option Nat) : Option Nat := if r = G.2.2.2 103 then r else none
theorem J.cUK {F L n maxL index : Nat} {x y : MethodName} {ws : List Cond} {bytes : ByteArray} {rt : Option FieldType} {β : Type} {ret : β → Option Value} {As st s2 : List Value} {oc : Option (β × jH)} {r1 : β} {σ1 : jH} {o : Option τ} {owner : String} (X : jCx p c cc nL s m args own G meth) (hR : R.cells = (fin t).2.1 - σ0.2.1 ∧ R.slots = (fin t).2.2 - σ0.2.2) {a : Nat} {r : Option Nat} (K : jCt l G y ws F L ret (.ref a :: As) σ oc) (hoc : oc = some (r1, σ1)) (cw : ∀ mc ms, va_CU R s args own "java/lang/CharacterDataLatin1" owner index x y bytes maxL rt ws ({ frames := F, cells := mc, slots := ms, locals := L } : Room) mc ms n) (ha : cdr G r = some a) (hn : As.length = n) (hsz : ls.size = nL) (hst : st = As.reverse ++ va_rf r :: rest) (hs2 : (ret r1).toList ++ rest = s2) (hw : (rest.map fun v => v.category).sum ≤ 8) (hdg : decode cc pc = .ok (.invokevirtual index, 3))
    (kk : J p l e R s m args below meth c G σ0 Q fin t o σ1 (F0 m (pc + 3) ls s2)) : J p l e R s m args below meth c G σ0 Q fin t o σ (F0 m pc ls st) := by
  unfold cdr at ha
  split at ha
  case isFalse => cases ha
  case isTrue hr =>
  subst ha
  obtain ⟨cd, h1, h2, h3⟩ := X.2.1.2.2.2.2.2.2.2.2.2.2.2.2.2.2.2.2
  cases hr.trans h1
  exact J.call (d := 3) hR K hoc hs2 (fun H locs cells slots mc ms Qc hi hM hf => va_runU X.1 hM (cw mc ms) ⟨jPc.blind, by
    obtain ⟨cell, g1, g2, g3, -⟩ := h3.kept hi.2.1.2.1
    exact ⟨cell, g1, g2, g3⟩, fun U hU hW => ⟨rfl, hi.st X.2.1 hU hW⟩⟩ rfl hn hsz hst (lv_room hw) hdg hf) kk
def jIs (σ : jH) (r : Option Nat) (ci : Nat) : Option Int32 := match r with
  | none => some 0
  | some a => match σ.1 a with
    | some x => if jcls x = some ci then some 1 else none
    | none => none
theorem J.inst (X : jCx p c cc nL s m args own G meth) {r : Option Nat} {ci index : Nat} {q : vw_C} (hl : Cond.classLink own index q.1 ∈ lw_all) (hc : jCl[ci]? = some q) (hdg : decode cc pc = .ok (.instanceof index, 3)) {f : Int32 → Option τ}
    (kk : ∀ v, jIs σ r ci = some v → J p l e R s m args below meth c G σ0 Q fin t (f v) σ (F0 m (pc + 3) ls (.int v :: rest))) : J p l e R s m args below meth c G σ0 Q fin t ((jIs σ r ci).bind f) σ (F0 m pc ls (va_rf r :: rest)) := by
  refine J.bind fun v h => ?_
  have k := kk v h
  unfold jIs at h
  split at h
  · cases h
    exact J.pu (fun _ _ _ _ k => lv_instN X.1.1 X.1.2.1 hdg k) k
  · next a =>
    split at h
    · next x hx =>
      split at h
      · next hcx =>
        cases h
        intro ho
        refine ⟨(k ho).1, fun h0 H locs hi => ?_⟩
        exact va_instS X.1.1 X.1.2.1 X.1.2.2.2.1 (X.1.2.2.2.2 _ hl) (X.2.1.1.1 ci q hc).2 (jIn_cls X.2.1 hi hx hcx hc) hdg ((k ho).2 h0 H locs hi)
      · cases h
    · cases h
def gB (G : jG) (σ : jH) (r : Option Nat) : Option Unit := match r with
  | none => none
  | some a => match σ.1 a with
    | some (.inl (.inr (.inl (k, _, _)))) => if k = 1 ∧ G.2.2.1 ≤ a then some () else none
    | _ => none
theorem J.castB (X : jCx p c cc nL s m args own G meth) {r : Option Nat} {index : Nat} (hl : Cond.classLink own index "[B" ∈ lw_all) (hdg : decode cc pc = .ok (.checkcast index, 3)) {f : Unit → Option τ}
    (kk : J p l e R s m args below meth c G σ0 Q fin t (f ()) σ (F0 m (pc + 3) ls (va_rf r :: rest))) : J p l e R s m args below meth c G σ0 Q fin t ((gB G σ r).bind f) σ (F0 m pc ls (va_rf r :: rest)) := by
  refine J.bind fun _ h => ?_
  unfold gB at h
  split at h
  · cases h
  · next a =>
    split at h
    · next k9 n9 f9 ha =>
      split at h
      · next hc9 =>
        obtain ⟨rfl, han⟩ := hc9
        intro ho
        refine ⟨(kk ho).1, fun h0 H locs hi => ?_⟩
        have hat : H[a]? = some (vp_cell (G.2.1 1) (n9, .inl f9)) := jIn_own hi ha han
        have k := (kk ho).2 h0 H locs hi
        have hf : s.vm.findClass "[B" = some (G.2.1 1) := (X.2.1.1.2 1 (G.2.1 1, .byte) rfl).2
        intro T hT X9
        obtain ⟨vm', X', st⟩ := X9.checkcastYes X.1.1 X.1.2.2.2.1 (X.1.2.2.2.2 _ hl) (by rw [hT]; exact hat) rfl hf (va_asg _ _) (g := F0 m pc ls (.ref a :: rest)) rfl rfl (by rw [X.1.2.1]; exact hdg)
        obtain ⟨t, a1, b1⟩ := k (T.setVm vm') hT X'
        exact ⟨t, st t a1, b1⟩
      · cases h
    · cases h
theorem J.instB (X : jCx p c cc nL s m args own G meth) {r : Option Nat} {index : Nat} (hl : Cond.classLink own index "[B" ∈ lw_all) (hdg : decode cc pc = .ok (.instanceof index, 3)) {f : Unit → Option τ}
    (kk : J p l e R s m args below meth c G σ0 Q fin t (f ()) σ (F0 m (pc + 3) ls (.int 1 :: rest))) : J p l e R s m args below meth c G σ0 Q fin t ((gB G σ r).bind f) σ (F0 m pc ls (va_rf r :: rest)) := by
  refine J.bind fun _ h => ?_
  unfold gB at h
  split at h
  · cases h
  · next a =>
    split at h
    · next k9 n9 f9 ha =>
      split at h
      · next hc9 =>
        obtain ⟨rfl, han⟩ := hc9
        intro ho
        refine ⟨(kk ho).1, fun h0 H locs hi => ?_⟩
        have hat : H[a]? = some (vp_cell (G.2.1 1) (n9, .inl f9)) := jIn_own hi ha han
        have k := (kk ho).2 h0 H locs hi
        have hf : s.vm.findClass "[B" = some (G.2.1 1) := (X.2.1.1.2 1 (G.2.1 1, .byte) rfl).2
        intro T hT X9
        obtain ⟨vm', X', st⟩ := X9.instanceofYes X.1.1 X.1.2.2.2.1 (X.1.2.2.2.2 _ hl) (by rw [hT]; exact hat) rfl hf (va_asg _ _) (g := F0 m pc ls (.ref a :: rest)) rfl rfl (by rw [X.1.2.1]; exact hdg)
        obtain ⟨t, a1, b1⟩ := k (T.setVm vm') hT X'
        exact ⟨t, st t a1, b1⟩
      · cases h
    · cases h
end CSU
