/-! THE START, second part: classes, global facts, the abstract heap (printed by wip gen/mkst2.py) -/
set_option maxRecDepth 100000
section ST2
variable {s : State} {b L : Nat} {xs : Nat → Int32}
theorem st_cls (hts : ∀ w ∈ lw_tbl, w.before #[Value.ref b] s = true) : ∃ (dC : Nat → ClassId) (dI : Nat → Nat → Nat), ∀ (k : Nat) (q : vw_C), jCl[k]? = some q → u_Kn s q.1 q.2.1 q.2.2 (dC k) (dI k) := by
  have hta : ∀ w ∈ lw_all, w.before #[Value.ref b] s = true := fun w h => hts w (lw_all_tbl h)
  have key : ∀ k : Nat, ∃ (c : ClassId) (iS : Nat → Nat), ∀ (q : vw_C), jCl[k]? = some q → u_Kn s q.1 q.2.1 q.2.2 c iS := by
    intro k
    by_cases h0 : k = 0
    · subst h0
      obtain ⟨c, iS, h⟩ := u_known (C := RX1) (T := TX1) (N := 9) hta in_X1 (hts _ (lw_all_tbl q195))
      exact ⟨c, iS, fun q hq => by cases hq; exact h⟩
    by_cases h1 : k = 1
    · subst h1
      obtain ⟨c, iS, h⟩ := u_known (C := RX2) (T := TX2) (N := 9) hta in_X2 (hts _ (lw_all_tbl q203))
      exact ⟨c, iS, fun q hq => by cases hq; exact h⟩
    by_cases h2 : k = 2
    · subst h2
      obtain ⟨c, iS, h⟩ := u_known (C := RX3) (T := TX3) (N := 1) hta in_X3 (hts _ (lw_all_tbl q566))
      exact ⟨c, iS, fun q hq => by cases hq; exact h⟩
    by_cases h3 : k = 3
    · subst h3
      obtain ⟨c, iS, h⟩ := u_known (C := RX4) (T := TX4) (N := 9) hta in_X4 (hts _ (lw_all_tbl q729))
      exact ⟨c, iS, fun q hq => by cases hq; exact h⟩
    by_cases h4 : k = 4
    · subst h4
      obtain ⟨c, iS, h⟩ := u_known (C := RX5) (T := TX5) (N := 10) hta in_X5 (hts _ (lw_all_tbl q952))
      exact ⟨c, iS, fun q hq => by cases hq; exact h⟩
    by_cases h5 : k = 5
    · subst h5
      obtain ⟨c, iS, h⟩ := u_known (C := RX6) (T := TX6) (N := 26) hta in_X6 (hts _ (lw_all_tbl q2713))
      exact ⟨c, iS, fun q hq => by cases hq; exact h⟩
    by_cases h6 : k = 6
    · subst h6
      obtain ⟨c, iS, h⟩ := u_known (C := RX8) (T := TX8) (N := 8) hta in_X8 (hts _ (lw_all_tbl q1378))
      exact ⟨c, iS, fun q hq => by cases hq; exact h⟩
    by_cases h7 : k = 7
    · subst h7
      obtain ⟨c, iS, h⟩ := u_known (C := RX10) (T := TX10) (N := 8) hta in_X10 (hts _ (lw_all_tbl q1761))
      exact ⟨c, iS, fun q hq => by cases hq; exact h⟩
    by_cases h8 : k = 8
    · subst h8
      obtain ⟨c, iS, h⟩ := u_known (C := RX9) (T := TX9) (N := 8) hta in_X9 (hts _ (lw_all_tbl q1572))
      exact ⟨c, iS, fun q hq => by cases hq; exact h⟩
    by_cases h9 : k = 9
    · subst h9
      obtain ⟨c, iS, h⟩ := u_known (C := RX12) (T := TX12) (N := 2) hta in_X12 (hts _ (lw_all_tbl q1829))
      exact ⟨c, iS, fun q hq => by cases hq; exact h⟩
    by_cases h10 : k = 10
    · subst h10
      obtain ⟨c, iS, h⟩ := u_known (C := RX13) (T := TX13) (N := 2) hta in_X13 (hts _ (lw_all_tbl q1845))
      exact ⟨c, iS, fun q hq => by cases hq; exact h⟩
    by_cases h11 : k = 11
    · subst h11
      obtain ⟨c, iS, h⟩ := u_known (C := RX14) (T := TX14) (N := 2) hta in_X14 (hts _ (lw_all_tbl q1854))
      exact ⟨c, iS, fun q hq => by cases hq; exact h⟩
    by_cases h12 : k = 12
    · subst h12
      obtain ⟨c, iS, h⟩ := u_known (C := RX15) (T := TX15) (N := 2) hta in_X15 (hts _ (lw_all_tbl q1863))
      exact ⟨c, iS, fun q hq => by cases hq; exact h⟩
    by_cases h13 : k = 13
    · subst h13
      obtain ⟨c, iS, h⟩ := u_known (C := RX16) (T := TX16) (N := 2) hta in_X16 (hts _ (lw_all_tbl q1872))
      exact ⟨c, iS, fun q hq => by cases hq; exact h⟩
    by_cases h14 : k = 14
    · subst h14
      obtain ⟨c, iS, h⟩ := u_known (C := RX17) (T := TX17) (N := 2) hta in_X17 (hts _ (lw_all_tbl q1885))
      exact ⟨c, iS, fun q hq => by cases hq; exact h⟩
    by_cases h15 : k = 15
    · subst h15
      obtain ⟨c, iS, h⟩ := u_known (C := RJ2) (T := TJ2) (N := 3) hta in_J2 (hts _ (lw_all_tbl q211))
      exact ⟨c, iS, fun q hq => by cases hq; exact h⟩
    by_cases h16 : k = 16
    · subst h16
      obtain ⟨c, iS, h⟩ := u_known (C := RJ19) (T := TJ19) (N := 4) hta in_J19 (hts _ (lw_all_tbl q735))
      exact ⟨c, iS, fun q hq => by cases hq; exact h⟩
    by_cases h17 : k = 17
    · subst h17
      obtain ⟨c, iS, h⟩ := u_known (C := RJ17) (T := TJ17) (N := 3) hta in_J17 (hts _ (lw_all_tbl q658))
      exact ⟨c, iS, fun q hq => by cases hq; exact h⟩
    by_cases h18 : k = 18
    · subst h18
      obtain ⟨c, iS, h⟩ := u_known (C := RJ20) (T := TJ20) (N := 3) hta in_J20 (hts _ (lw_all_tbl q804))
      exact ⟨c, iS, fun q hq => by cases hq; exact h⟩
    by_cases h19 : k = 19
    · subst h19
      obtain ⟨c, iS, h⟩ := u_known (C := RJ26) (T := TJ26) (N := 5) hta in_J26 (hts _ (lw_all_tbl q1148))
      exact ⟨c, iS, fun q hq => by cases hq; exact h⟩
    by_cases h20 : k = 20
    · subst h20
      obtain ⟨c, iS, h⟩ := u_known (C := RJ8) (T := TJ8) (N := 4) hta in_J8 (hts _ (lw_all_tbl q273))
      exact ⟨c, iS, fun q hq => by cases hq; exact h⟩
    by_cases h21 : k = 21
    · subst h21
      obtain ⟨c, iS, h⟩ := u_known (C := RJ9) (T := TJ9) (N := 4) hta in_J9 (hts _ (lw_all_tbl q456))
      exact ⟨c, iS, fun q hq => by cases hq; exact h⟩
    · refine ⟨0, fun _ => 0, fun q hq => ?_⟩
      have hl : k < 22 := (List.getElem?_eq_some_iff.mp hq).1
      omega
  have h1 : ∀ k : Nat, ∃ z : ClassId × (Nat → Nat), ∀ (q : vw_C), jCl[k]? = some q → u_Kn s q.1 q.2.1 q.2.2 z.1 z.2 := fun k => by
    obtain ⟨c, iS, h⟩ := key k
    exact ⟨(c, iS), h⟩
  obtain ⟨f, hf⟩ := Classical.axiomOfChoice h1
  exact ⟨fun k => (f k).1, fun k => (f k).2, fun k q hq => hf k q hq⟩
theorem st_prim {ty : FieldType} (h : (Cond.arrayClass ty).before #[Value.ref b] s = true) (hty : va_RA s 0 ty = (s.vm.findClass ("[" ++ ty.toString) = some 0) ∧ ∀ c, va_RA s c ty = (s.vm.findClass ("[" ++ ty.toString) = some c)) : ∃ c, ArrOfT s c ty ∧ va_RA s c ty := by
  obtain ⟨c, k, comp, h1, h2, h3⟩ := Cond.arrayClass_spec h
  refine ⟨c, fun N z => ⟨fun k h => (by cases h), k, h2, comp, h3⟩, ?_⟩
  rw [hty.2 c]
  exact h1
theorem st_arr (hts : ∀ w ∈ lw_tbl, w.before #[Value.ref b] s = true) : ∃ aC : Nat → ClassId, ∀ (k : Nat) (q : ClassId × FieldType), ([(aC 0, .int), (aC 1, .byte), (aC 2, .boolean), (aC 3, .long), (aC 4, .object "java/lang/Object")] : List (ClassId × FieldType))[k]? = some q → ArrOfT s q.1 q.2 ∧ va_RA s q.1 q.2 := by
  obtain ⟨c0, h0⟩ := st_prim (hts _ (lw_all_tbl q678)) ⟨rfl, fun _ => rfl⟩
  obtain ⟨c1, h1⟩ := st_prim (hts _ (lw_all_tbl q304)) ⟨rfl, fun _ => rfl⟩
  obtain ⟨c2, h2⟩ := st_prim (hts _ (lw_all_tbl q679)) ⟨rfl, fun _ => rfl⟩
  obtain ⟨c3, h3⟩ := st_prim (hts _ (lw_all_tbl q3320)) ⟨rfl, fun _ => rfl⟩
  obtain ⟨comp, c4, k4, g1, g2, g3, g4, g5⟩ := Cond.arrayOver_spec (hts _ (q223))
  refine ⟨fun k => match k with | 0 => c0 | 1 => c1 | 2 => c2 | 3 => c3 | _ => c4, fun k q hq => ?_⟩
  match k, hq with
  | 0, hq => cases hq; exact h0
  | 1, hq => cases hq; exact h1
  | 2, hq => cases hq; exact h2
  | 3, hq => cases hq; exact h3
  | 4, hq => cases hq; exact ⟨fun N z => ⟨fun k h => (by cases h), k4, g3, comp, g4⟩, k4, comp, g3, g4, g1, g5⟩
  | n + 5, hq => simp at hq
/-- strings -/
def stS (s : State) (b : Nat) (i : Nat) (q : Nat × Nat) : Prop := (kTm i).eval #[Value.ref b] s none [] s = some (.ref q.1) ∧ va_O "java/lang/String" q.1 (fun a => s.heap.size ≤ a) s s.heap ∧ va_OF "java/lang/String" "coder" "B" (.int 0) q.1 (fun a => s.heap.size ≤ a) s s.heap ∧ va_OF "java/lang/String" "value" "[B" (.ref q.2) q.1 (fun a => s.heap.size ≤ a) s s.heap ∧ va_OF "java/lang/String" "hash" "I" (.int (kHs.getD i (0, 0)).1) q.1 (fun a => s.heap.size ≤ a) s s.heap ∧ va_OF "java/lang/String" "hashIsZero" "Z" (.int (kHs.getD i (0, 0)).2) q.1 (fun a => s.heap.size ≤ a) s s.heap ∧ va_T .byte q.2 (kTx i).length (fun j => .int ((kTx i).getD j 0)) (fun a => s.heap.size ≤ a) s s.heap
theorem kTx_len : ∀ i, i < 46 → (kTx i).length < 256 := by decide +kernel
theorem kw0 (i : Nat) : Cond.exactly (kTm i) "java/lang/String" ∈ kWords i := List.mem_append_left _ (List.mem_append_left _ List.mem_cons_self)
theorem kw1 (i : Nat) : Cond.eq (.field (kTm i) "java/lang/String" "coder" "B") (.int 0) ∈ kWords i := List.mem_append_left _ (List.mem_append_left _ (List.mem_cons_of_mem _ List.mem_cons_self))
theorem kw2 (i : Nat) : Cond.arrayOf (.field (kTm i) "java/lang/String" "value" "[B") .byte ∈ kWords i := List.mem_append_left _ (List.mem_append_left _ (List.mem_cons_of_mem _ (List.mem_cons_of_mem _ List.mem_cons_self)))
theorem kw3 (i : Nat) : Cond.eq (.length (.field (kTm i) "java/lang/String" "value" "[B")) (.int (Int32.ofNat (kTx i).length)) ∈ kWords i := List.mem_append_left _ (List.mem_append_left _ (List.mem_cons_of_mem _ (List.mem_cons_of_mem _ (List.mem_cons_of_mem _ List.mem_cons_self))))
theorem kw4 (i : Nat) : Cond.eq (.field (kTm i) "java/lang/String" "hash" "I") (.int (kHs.getD i (0, 0)).1) ∈ kWords i := List.mem_append_right _ List.mem_cons_self
theorem kw5 (i : Nat) : Cond.eq (.field (kTm i) "java/lang/String" "hashIsZero" "Z") (.int (kHs.getD i (0, 0)).2) ∈ kWords i := List.mem_append_right _ (List.mem_cons_of_mem _ List.mem_cons_self)
theorem st_str (hN : ∀ w ∈ NL, w.before #[Value.ref b] s = true) : ∃ ad : Nat → Nat × Nat, ∀ i, i < 46 → stS s b i (ad i) := by
  have hA : ∀ a : Nat, a < s.heap.size → ¬ (fun a => s.heap.size ≤ a) a := fun a h => Nat.not_le.mpr h
  have h0 : ∀ i, ∃ q : Nat × Nat, i < 46 → stS s b i q := by
    intro i
    by_cases hi : i < 46
    · have hw : ∀ w ∈ kWords i, w.before #[Value.ref b] s = true := fun w h => hN w (kWords_m hi w h)
      have hlen := kTx_len i hi
      obtain ⟨a, c, cA, kA, q1, q2, q3, q4, q5, q6, -⟩ := Cond.exactly_spec (args := #[Value.ref b]) (first := s) (o := none) (s := s) (idx := []) (t := kTm i) (cls := "java/lang/String") (hw _ (kw0 i))
      obtain ⟨t, ht, hT⟩ := va_Tof (tm := .field (kTm i) "java/lang/String" "value" "[B") (f := fun j => .int ((kTx i).getD j 0)) (A := fun a => s.heap.size ≤ a) (N := (kTx i).length) (by omega) (hw _ (kw2 i)) (va_eqt (hw _ (kw3 i))) (fun j hj => va_eqt (hw _ (List.mem_append_left _ (List.mem_append_right _ (List.mem_map.mpr ⟨j, List.mem_range.mpr hj, rfl⟩))))) hA
      exact ⟨(a, t), fun _ => ⟨q1, ⟨cA, q3, q5, by rw [q6]; exact q2, hA a (Array.getElem?_eq_some_iff.mp q3).1⟩, vk_OFof q1 (va_eqt (hw _ (kw1 i))) hA, vk_OFof q1 ht hA, vk_OFof q1 (va_eqt (hw _ (kw4 i))) hA, vk_OFof q1 (va_eqt (hw _ (kw5 i))) hA, hT⟩⟩
    · exact ⟨(0, 0), fun h => absurd h hi⟩
  exact Classical.axiomOfChoice h0
/-- byte tables -/
theorem st_tab (hN : ∀ w ∈ NL, w.before #[Value.ref b] s = true) {tm : Term} {n : Nat} {F : Nat → Int32} (hn : n < 2 ^ 31) (hm : ∀ w ∈ tWords tm n F, w ∈ NL) : ∃ t : Nat, tm.eval #[Value.ref b] s none [] s = some (.ref t) ∧ va_T .byte t n (fun j => .int (F j)) (fun a => s.heap.size ≤ a) s s.heap := by
  have hA : ∀ a : Nat, a < s.heap.size → ¬ (fun a => s.heap.size ≤ a) a := fun a h => Nat.not_le.mpr h
  have hw : ∀ w ∈ tWords tm n F, w.before #[Value.ref b] s = true := fun w h => hN w (hm w h)
  exact va_Tof hn (hw _ (List.mem_append_left _ List.mem_cons_self)) (va_eqt (hw _ (List.mem_append_left _ (List.mem_cons_of_mem _ List.mem_cons_self)))) (fun j hj => va_eqt (hw _ (List.mem_append_right _ (List.mem_map.mpr ⟨j, List.mem_range.mpr hj, rfl⟩)))) hA
theorem st_ref {t : Term} (h : (Cond.isRef t).before #[Value.ref b] s = true) : ∃ r : Option Nat, t.eval #[Value.ref b] s none [] s = some (va_rf r) := by
  obtain ⟨v, hv, hr⟩ := Cond.isRef_spec h
  cases v with
  | ref a => exact ⟨some a, hv⟩
  | null => exact ⟨none, hv⟩
  | int _ => cases hr
  | long _ => cases hr
  | float _ => cases hr
  | double _ => cases hr
  | _ => cases hr
theorem selASB (hsel : (Cond.selects "java/lang/StringBuilder" ⟨"java/lang/AbstractStringBuilder", "isLatin1", "()Z"⟩ ⟨"java/lang/AbstractStringBuilder", "isLatin1", "()Z"⟩).before #[Value.ref b] s = true) {nm ds : String} (hpriv : (Cond.privateMethod ⟨"java/lang/AbstractStringBuilder", nm, ds⟩).before #[Value.ref b] s = true) (hinst : (Cond.instanceMethod ⟨"java/lang/AbstractStringBuilder", nm, ds⟩).before #[Value.ref b] s = true) : (Cond.selects "java/lang/StringBuilder" ⟨"java/lang/AbstractStringBuilder", nm, ds⟩ ⟨"java/lang/AbstractStringBuilder", nm, ds⟩).before #[Value.ref b] s = true := by
  obtain ⟨c2, r2, m2, q1, q2, q3, q4, kP, hkP, hni⟩ := Cond.selects_spec hsel
  obtain ⟨mk, methM, hnamed, hmethM, -, -⟩ := Cond.instanceMethod_spec hinst
  have hfound : s.methodFound? "java/lang/AbstractStringBuilder" nm ds = some mk := State.methodFound?_of_named hnamed (show ("java/lang/AbstractStringBuilder" : String) ≠ "java/lang/invoke/MethodHandle" ∧ ("java/lang/AbstractStringBuilder" : String) ≠ "java/lang/invoke/VarHandle" from by decide)
  have g1 : s.vm.findClass "java/lang/AbstractStringBuilder" = some mk.cls := findClass_of_methodNamed hnamed
  have g2 : s.vm.findClass "java/lang/AbstractStringBuilder" = some m2.cls := findClass_of_methodNamed q3
  have hcls : mk.cls = m2.cls := Option.some.inj (g1.symm.trans g2)
  have hs2 : selectMethod {} s.vm c2 mk = .method mk := selectMethod_private hmethM (Cond.privateMethod_at hpriv mk methM hnamed hmethM)
  simp only [Cond.before, Cond.holds, Cond.value, q1, hfound, hnamed, hs2, hcls, hkP]
  simp
  exact hni
end ST2
