/-! the contracts of the JDK over coarse cells, printed by wip gen/ct.py -/
set_option maxRecDepth 100000
theorem ct_J2_init_2 (l : Launch) (G : jG) (σ : jH) (a : Nat) : jCt l G yJ2_init_2 (ws_ yJ2_init_2 cJ2_init_2 1 none) 20 1200 jrV [.ref a] σ (jck σ (alInit G σ a)) :=
  jCt.opw (Nat.le_of_ble_eq_true rfl) (Nat.le_of_ble_eq_true rfl) (fun n τ => ct_f_J2_init_2 l G n τ a) (fun v σ' h φ hr hz hzn => p_J2_init_2 hr h)
theorem ct_J2_init (l : Launch) (G : jG) (σ : jH) (a : Nat) (b : Int32) : jCt l G yJ2_init (ws_ yJ2_init cJ2_init 2 none) 20 1200 jrV [.ref a, .int b] σ (jck σ (alInitI G σ a b)) :=
  jCt.opw (Nat.le_of_ble_eq_true rfl) (Nat.le_of_ble_eq_true rfl) (fun n τ => ct_f_J2_init l G n τ a b) (fun v σ' h φ hr hz hzn => p_J2_init hr hz hzn h)
theorem ct_J2_add (l : Launch) (G : jG) (σ : jH) (a : Nat) (b : Option Nat) : jCt l G yJ2_add (ws_ yJ2_add cJ2_add 2 (some .boolean)) 20 1200 jrI [.ref a, va_rf b] σ (jck σ (alAdd G σ a b)) :=
  jCt.opw (Nat.le_of_ble_eq_true rfl) (Nat.le_of_ble_eq_true rfl) (fun n τ => ct_f_J2_add l G n τ a b) (fun v σ' h φ hr hz hzn => p_J2_add hr hz hzn h)
theorem ct_J2_add_3 (l : Launch) (G : jG) (σ : jH) (a : Nat) (b : Int32) (c : Option Nat) : jCt l G yJ2_add_3 (ws_ yJ2_add_3 cJ2_add_3 5 none) 20 1200 jrV [.ref a, .int b, va_rf c] σ (jck σ (alAddI G σ a b c)) :=
  jCt.opw (Nat.le_of_ble_eq_true rfl) (Nat.le_of_ble_eq_true rfl) (fun n τ => ct_f_J2_add_3 l G n τ a b c) (fun v σ' h φ hr hz hzn => p_J2_add_3 hr hz hzn h)
theorem ct_J2_get (l : Launch) (G : jG) (σ : jH) (a : Nat) (b : Int32) : jCt l G yJ2_get (ws_ yJ2_get cJ2_get 2 (some (.object "java/lang/Object"))) 20 1200 jrR [.ref a, .int b] σ (jrd σ (lGet 0 σ a b)) :=
  jCt.opr (Nat.le_of_ble_eq_true rfl) (Nat.le_of_ble_eq_true rfl) (fun n τ => ct_f_J2_get l G n τ a b) (fun v h φ hr => ⟨0, p_J2_get hr h 0⟩)
theorem ct_J2_set (l : Launch) (G : jG) (σ : jH) (a : Nat) (b : Int32) (c : Option Nat) : jCt l G yJ2_set (ws_ yJ2_set cJ2_set 4 (some (.object "java/lang/Object"))) 20 1200 jrR [.ref a, .int b, va_rf c] σ (jck σ (alSet G σ a b c)) :=
  jCt.opw (Nat.le_of_ble_eq_true rfl) (Nat.le_of_ble_eq_true rfl) (fun n τ => ct_f_J2_set l G n τ a b c) (fun v σ' h φ hr hz hzn => p_J2_set hr hz h)
theorem ct_J2_remove (l : Launch) (G : jG) (σ : jH) (a : Nat) (b : Int32) : jCt l G yJ2_remove (ws_ yJ2_remove cJ2_remove 4 (some (.object "java/lang/Object"))) 20 1200 jrR [.ref a, .int b] σ (jck σ (alRem G σ a b)) :=
  jCt.opw (Nat.le_of_ble_eq_true rfl) (Nat.le_of_ble_eq_true rfl) (fun n τ => ct_f_J2_remove l G n τ a b) (fun v σ' h φ hr hz hzn => p_J2_remove hr h)
theorem ct_J2_size (l : Launch) (G : jG) (σ : jH) (a : Nat) : jCt l G yJ2_size (ws_ yJ2_size cJ2_size 1 (some .int)) 20 1200 jrI [.ref a] σ (jrd σ (lSize 0 σ a)) :=
  jCt.opr (Nat.le_of_ble_eq_true rfl) (Nat.le_of_ble_eq_true rfl) (fun n τ => ct_f_J2_size l G n τ a) (fun v h φ hr => ⟨0, p_J2_size hr h 0⟩)
theorem ct_J2_isEmpty (l : Launch) (G : jG) (σ : jH) (a : Nat) : jCt l G yJ2_isEmpty (ws_ yJ2_isEmpty cJ2_isEmpty 1 (some .boolean)) 20 1200 jrI [.ref a] σ (jrd σ (lEmpty 0 σ a)) :=
  jCt.opr (Nat.le_of_ble_eq_true rfl) (Nat.le_of_ble_eq_true rfl) (fun n τ => ct_f_J2_isEmpty l G n τ a) (fun v h φ hr => ⟨0, p_J2_isEmpty hr h 0⟩)
theorem ct_J19_init (l : Launch) (G : jG) (σ : jH) (a : Nat) : jCt l G yJ19_init (ws_ yJ19_init cJ19_init 1 none) 20 1200 jrV [.ref a] σ (jck σ (llInit G σ a)) :=
  jCt.opw (Nat.le_of_ble_eq_true rfl) (Nat.le_of_ble_eq_true rfl) (fun n τ => ct_f_J19_init l G n τ a) (fun v σ' h φ hr hz hzn => p_J19_init hr h)
theorem ct_J19_add (l : Launch) (G : jG) (σ : jH) (a : Nat) (b : Option Nat) : jCt l G yJ19_add (ws_ yJ19_add cJ19_add 2 (some .boolean)) 20 1200 jrI [.ref a, va_rf b] σ (jck σ (llAdd G σ a b)) :=
  jCt.opw (Nat.le_of_ble_eq_true rfl) (Nat.le_of_ble_eq_true rfl) (fun n τ => ct_f_J19_add l G n τ a b) (fun v σ' h φ hr hz hzn => p_J19_add hr hz hzn h)
theorem ct_J19_get (l : Launch) (G : jG) (σ : jH) (a : Nat) (b : Int32) : jCt l G yJ19_get (ws_ yJ19_get cJ19_get 2 (some (.object "java/lang/Object"))) 20 1200 jrR [.ref a, .int b] σ (jrd σ (lGet 1 σ a b)) :=
  jCt.opr (Nat.le_of_ble_eq_true rfl) (Nat.le_of_ble_eq_true rfl) (fun n τ => ct_f_J19_get l G n τ a b) (fun v h φ hr => p_J19_get hr h)
theorem ct_J19_size (l : Launch) (G : jG) (σ : jH) (a : Nat) : jCt l G yJ19_size (ws_ yJ19_size cJ19_size 1 (some .int)) 20 1200 jrI [.ref a] σ (jrd σ (lSize 1 σ a)) :=
  jCt.opr (Nat.le_of_ble_eq_true rfl) (Nat.le_of_ble_eq_true rfl) (fun n τ => ct_f_J19_size l G n τ a) (fun v h φ hr => ⟨0, p_J19_size hr h 0⟩)
theorem ct_J0_isEmpty (l : Launch) (G : jG) (σ : jH) (a : Nat) : jCt l G yJ0_isEmpty (ws_ yJ0_isEmpty cJ0_isEmpty 1 (some .boolean)) 20 1200 jrI [.ref a] σ (jrd σ (lEmpty 1 σ a)) :=
  jCt.opr (Nat.le_of_ble_eq_true rfl) (Nat.le_of_ble_eq_true rfl) (fun n τ => ct_f_J0_isEmpty_J19 l G n τ a) (fun v h φ hr => ⟨0, p_J0_isEmpty hr h 0⟩)
theorem ct_J19_clear (l : Launch) (G : jG) (σ : jH) (a : Nat) : jCt l G yJ19_clear (ws_ yJ19_clear cJ19_clear 3 none) 20 1200 jrV [.ref a] σ (jck σ (llClear G σ a)) :=
  jCt.opw (Nat.le_of_ble_eq_true rfl) (Nat.le_of_ble_eq_true rfl) (fun n τ => ct_f_J19_clear l G n τ a) (fun v σ' h φ hr hz hzn => p_J19_clear hr h)
theorem ct_J19_contains (l : Launch) (G : jG) (σ : jH) (a : Nat) (b : Option Nat) : jCt l G yJ19_contains (ws_ yJ19_contains cJ19_contains 2 (some .boolean)) 20 1200 jrI [.ref a, va_rf b] σ (jrd σ (llHas σ a b)) :=
  jCt.opr (Nat.le_of_ble_eq_true rfl) (Nat.le_of_ble_eq_true rfl) (fun n τ => ct_f_J19_contains l G n τ a b) (fun v h φ hr => p_J19_contains hr h)
theorem ct_J18_iterator (l : Launch) (G : jG) (σ : jH) (a : Nat) : jCt l G yJ18_iterator (ws_ yJ18_iterator cJ18_iterator 1 (some (.object "java/util/Iterator"))) 20 1200 jrR [.ref a] σ (jck σ (llIter σ a)) :=
  jCt.opw (Nat.le_of_ble_eq_true rfl) (Nat.le_of_ble_eq_true rfl) (fun n τ => ct_f_J18_iterator_J19 l G n τ a) (fun v σ' h φ hr hz hzn => p_J18_iterator hr hz hzn h)
theorem ct_J26_hasNext (l : Launch) (G : jG) (σ : jH) (a : Nat) : jCt l G yJ26_hasNext (ws_ yJ26_hasNext cJ26_hasNext 1 (some .boolean)) 20 1200 jrI [.ref a] σ (jrd σ (itHas σ a)) :=
  jCt.opr (Nat.le_of_ble_eq_true rfl) (Nat.le_of_ble_eq_true rfl) (fun n τ => ct_f_J26_hasNext l G n τ a) (fun v h φ hr => ⟨0, p_J26_hasNext hr h 0⟩)
theorem ct_J26_next (l : Launch) (G : jG) (σ : jH) (a : Nat) : jCt l G yJ26_next (ws_ yJ26_next cJ26_next 1 (some (.object "java/lang/Object"))) 20 1200 jrR [.ref a] σ (jck σ (itNext G σ a)) :=
  jCt.opw (Nat.le_of_ble_eq_true rfl) (Nat.le_of_ble_eq_true rfl) (fun n τ => ct_f_J26_next l G n τ a) (fun v σ' h φ hr hz hzn => p_J26_next hr h)
theorem ct_J20_init (l : Launch) (G : jG) (σ : jH) (a : Nat) : jCt l G yJ20_init (ws_ yJ20_init cJ20_init 1 none) 20 1200 jrV [.ref a] σ (jck σ (dqInit G σ a)) :=
  jCt.opw (Nat.le_of_ble_eq_true rfl) (Nat.le_of_ble_eq_true rfl) (fun n τ => ct_f_J20_init l G n τ a) (fun v σ' h φ hr hz hzn => p_J20_init hr hz hzn h)
theorem ct_J20_addLast (l : Launch) (G : jG) (σ : jH) (a : Nat) (b : Option Nat) : jCt l G yJ20_addLast (ws_ yJ20_addLast cJ20_addLast 3 none) 20 1200 jrV [.ref a, va_rf b] σ (jck σ (dqAdd G σ a b)) :=
  jCt.opw (Nat.le_of_ble_eq_true rfl) (Nat.le_of_ble_eq_true rfl) (fun n τ => ct_f_J20_addLast l G n τ a b) (fun v σ' h φ hr hz hzn => p_J20_addLast hr h)
theorem ct_J20_removeFirst (l : Launch) (G : jG) (σ : jH) (a : Nat) : jCt l G yJ20_removeFirst (ws_ yJ20_removeFirst cJ20_removeFirst 2 (some (.object "java/lang/Object"))) 20 1200 jrR [.ref a] σ (jck σ (dqFirst G σ a)) :=
  jCt.opw (Nat.le_of_ble_eq_true rfl) (Nat.le_of_ble_eq_true rfl) (fun n τ => ct_f_J20_removeFirst l G n τ a) (fun v σ' h φ hr hz hzn => p_J20_removeFirst hr h)
theorem ct_J20_removeLast (l : Launch) (G : jG) (σ : jH) (a : Nat) : jCt l G yJ20_removeLast (ws_ yJ20_removeLast cJ20_removeLast 2 (some (.object "java/lang/Object"))) 20 1200 jrR [.ref a] σ (jck σ (dqLast G σ a)) :=
  jCt.opw (Nat.le_of_ble_eq_true rfl) (Nat.le_of_ble_eq_true rfl) (fun n τ => ct_f_J20_removeLast l G n τ a) (fun v σ' h φ hr hz hzn => p_J20_removeLast hr h)
theorem ct_J20_size (l : Launch) (G : jG) (σ : jH) (a : Nat) : jCt l G yJ20_size (ws_ yJ20_size cJ20_size 1 (some .int)) 20 1200 jrI [.ref a] σ (jrd σ (dqSize σ a)) :=
  jCt.opr (Nat.le_of_ble_eq_true rfl) (Nat.le_of_ble_eq_true rfl) (fun n τ => ct_f_J20_size l G n τ a) (fun v h φ hr => ⟨0, p_J20_size hr h 0⟩)
theorem ct_J20_isEmpty (l : Launch) (G : jG) (σ : jH) (a : Nat) : jCt l G yJ20_isEmpty (ws_ yJ20_isEmpty cJ20_isEmpty 1 (some .boolean)) 20 1200 jrI [.ref a] σ (jrd σ (dqEmpty σ a)) :=
  jCt.opr (Nat.le_of_ble_eq_true rfl) (Nat.le_of_ble_eq_true rfl) (fun n τ => ct_f_J20_isEmpty l G n τ a) (fun v h φ hr => ⟨0, p_J20_isEmpty hr h 0⟩)
theorem ct_J20_clear (l : Launch) (G : jG) (σ : jH) (a : Nat) : jCt l G yJ20_clear (ws_ yJ20_clear cJ20_clear 1 none) 20 1200 jrV [.ref a] σ (jck σ (dqClear G σ a)) :=
  jCt.opw (Nat.le_of_ble_eq_true rfl) (Nat.le_of_ble_eq_true rfl) (fun n τ => ct_f_J20_clear l G n τ a) (fun v σ' h φ hr hz hzn => p_J20_clear hr h)
theorem ct_J8_init (l : Launch) (G : jG) (σ : jH) (a : Nat) : jCt l G yJ8_init (ws_ yJ8_init cJ8_init 1 none) 20 1200 jrV [.ref a] σ (jck σ (sbInit G σ a)) :=
  jCt.opw (Nat.le_of_ble_eq_true rfl) (Nat.le_of_ble_eq_true rfl) (fun n τ => ct_f_J8_init l G n τ a) (fun v σ' h φ hr hz hzn => p_J8_init hr hz hzn h)
theorem ct_J8_append_3 (l : Launch) (G : jG) (σ : jH) (a : Nat) (b : Int32) : jCt l G yJ8_append_3 (ws_ yJ8_append_3 cJ8_append_3 2 (some (.object "java/lang/StringBuilder"))) 20 1200 jrR [.ref a, .int b] σ (jck σ (sbAppC G σ a b)) :=
  jCt.opw (Nat.le_of_ble_eq_true rfl) (Nat.le_of_ble_eq_true rfl) (fun n τ => ct_f_J8_append_3 l G n τ a b) (fun v σ' h φ hr hz hzn => p_J8_append_3 hr hz hzn h)
theorem ct_J8_append_2 (l : Launch) (G : jG) (σ : jH) (a : Nat) (b : Int32) : jCt l G yJ8_append_2 (ws_ yJ8_append_2 cJ8_append_2 2 (some (.object "java/lang/StringBuilder"))) 20 1200 jrR [.ref a, .int b] σ (jck σ (sbAppI G σ a b)) :=
  jCt.opw (Nat.le_of_ble_eq_true rfl) (Nat.le_of_ble_eq_true rfl) (fun n τ => ct_f_J8_append_2 l G n τ a b) (fun v σ' h φ hr hz hzn => p_J8_append_2 hr hz hzn h)
theorem ct_J8_length (l : Launch) (G : jG) (σ : jH) (a : Nat) : jCt l G yJ8_length (ws_ yJ8_length cJ8_length 1 (some .int)) 20 1200 jrI [.ref a] σ (jrd σ (sbLen σ a)) :=
  jCt.opr (Nat.le_of_ble_eq_true rfl) (Nat.le_of_ble_eq_true rfl) (fun n τ => ct_f_J8_length l G n τ a) (fun v h φ hr => ⟨0, p_J8_length hr h 0⟩)
theorem ct_J8_charAt (l : Launch) (G : jG) (σ : jH) (a : Nat) (b : Int32) : jCt l G yJ8_charAt (ws_ yJ8_charAt cJ8_charAt 2 (some .char)) 20 1200 jrI [.ref a, .int b] σ (jrd σ (sbChr σ a b)) :=
  jCt.opr (Nat.le_of_ble_eq_true rfl) (Nat.le_of_ble_eq_true rfl) (fun n τ => ct_f_J8_charAt l G n τ a b) (fun v h φ hr => ⟨0, p_J8_charAt hr h 0⟩)
theorem ct_J8_setLength (l : Launch) (G : jG) (σ : jH) (a : Nat) (b : Int32) : jCt l G yJ8_setLength (ws_ yJ8_setLength cJ8_setLength 2 none) 20 1200 jrV [.ref a, .int b] σ (jck σ (sbSet G σ a b)) :=
  jCt.opw (Nat.le_of_ble_eq_true rfl) (Nat.le_of_ble_eq_true rfl) (fun n τ => ct_f_J8_setLength l G n τ a b) (fun v σ' h φ hr hz hzn => p_J8_setLength hr h)
theorem ct_J8_toString (l : Launch) (G : jG) (σ : jH) (a : Nat) : jCt l G yJ8_toString (ws_ yJ8_toString cJ8_toString 1 (some (.object "java/lang/String"))) 20 1200 jrR [.ref a] σ (jck σ (sbStr σ a)) :=
  jCt.opw (Nat.le_of_ble_eq_true rfl) (Nat.le_of_ble_eq_true rfl) (fun n τ => ct_f_J8_toString l G n τ a) (fun v σ' h φ hr hz hzn => p_J8_toString hr hz hzn h)
theorem ct_J9_equals (l : Launch) (G : jG) (σ : jH) (a : Nat) (b : Option Nat) : jCt l G yJ9_equals (ws_ yJ9_equals cJ9_equals 3 (some .boolean)) 20 1200 jrI [.ref a, va_rf b] σ (jrd σ (stEq σ a b)) :=
  jCt.opr (Nat.le_of_ble_eq_true rfl) (Nat.le_of_ble_eq_true rfl) (fun n τ => ct_f_J9_equals l G n τ a b) (fun v h φ hr => p_J9_equals hr h)
theorem ct_J9_hashCode (l : Launch) (G : jG) (σ : jH) (a : Nat) : jCt l G yJ9_hashCode (ws_ yJ9_hashCode cJ9_hashCode 2 (some .int)) 20 1200 jrI [.ref a] σ (jck σ (stHash G σ a)) :=
  jCt.opw (Nat.le_of_ble_eq_true rfl) (Nat.le_of_ble_eq_true rfl) (fun n τ => ct_f_J9_hashCode l G n τ a) (fun v σ' h φ hr hz hzn => p_J9_hashCode hr h)
theorem ct_J16_parseInt (l : Launch) (G : jG) (σ : jH) (b : Option Nat) : jCt l G yJ16_parseInt (ws_ yJ16_parseInt cJ16_parseInt 1 (some .int)) 20 1200 jrI [va_rf b] σ (jrd σ (stInt G σ b)) :=
  jCt.opr (Nat.le_of_ble_eq_true rfl) (Nat.le_of_ble_eq_true rfl) (fun n τ => ct_f_J16_parseInt l G n τ b) (fun v h φ hr => p_J16_parseInt hr h)
theorem ct_J9_length (l : Launch) (G : jG) (σ : jH) (a : Nat) : jCt l G yJ9_length (ws_ yJ9_length cJ9_length 1 (some .int)) 6 200 jrI [.ref a] σ (jrd σ (sLen σ a)) :=
  jCt.opr (Nat.le_of_ble_eq_true rfl) (Nat.le_of_ble_eq_true rfl) (fun n τ => ct_f_J9_length l G n τ a) (fun v h φ hr => ⟨0, p_J9_length hr h 0⟩)
theorem ct_J9_charAt (l : Launch) (G : jG) (σ : jH) (a : Nat) (k : Int32) : jCt l G yJ9_charAt (ws_ yJ9_charAt cJ9_charAt 2 (some .char)) 6 200 jrI [.ref a, .int k] σ (jrd σ (sChr σ a k)) :=
  jCt.opr (Nat.le_of_ble_eq_true rfl) (Nat.le_of_ble_eq_true rfl) (fun n τ => ct_f_J9_charAt l G n τ a k) (fun v h φ hr => ⟨0, p_J9_charAt hr h 0⟩)
