/-! the component, walked: printed by wip gen/comp.py -/
set_option maxRecDepth 100000
noncomputable def X0_slip_b (G : jG) (n : Nat) (σ : jH) (a0 : Option Nat) (a1 : Int32) (a2 : Option Nat) : Option (Int32 × jH) :=
  (rc σ a0 0).bind fun o4 => tc (X1_slip G n σ o4 a1) (fun v4 S4 => (sJ G S4 a2 0 v4.toInt64).bind fun S8 => some (0, S8)) (fun k4 q4 S4 => if k4 = 1 then (some (2, S4)) else if k4 = 2 then (some (1, S4)) else none)
noncomputable def X0_slip (G : jG) (n : Nat) (σ : jH) (a0 : Option Nat) (a1 : Int32) (a2 : Option Nat) : Option (Int32 × jH) := jck σ (X0_slip_b G n σ a0 a1 a2)
set_option maxHeartbeats 4000000 in
set_option maxRecDepth 100000 in
theorem ct_X0_slip (l : Launch) (hfl : l.stackTraces = false) (G : jG) (n : Nat) (σ : jH) (a0 : Option Nat) (a1 : Int32) (a2 : Option Nat) : jCt l G yX0_slip (wsW_ yX0_slip cX0_slip 4 (some .int) [(0, 9, 12, 22), (0, 9, 15, 73)]) 27 1354 jrI [va_rf a0, .int a1, va_rf a2] σ (X0_slip G n σ a0 a1 a2) := by
  refine jCt.wrH (hh := [(0, 9, 12, 22), (0, 9, 15, 73)]) (lv := [(0, va_rf a0), (1, .int a1), (2, va_rf a2)]) (plainFor_of_name (by decide)) (by simp [lg_sl, va_rf_cat, jcI, jcA, jcJ, jcD, jcF]) (by simp [lv_args, va_rf_cat, jcI, jcA, jcJ, jcD, jcF]) ?_
  intro t p e s m args below meth c ls X hr hnm htab hl
  have X : jCx p c cX0_slip 4 s m args RX0 G meth := X
  unfold X0_slip_b
  refine J.pu (fun _ _ _ _ k => W.rload_n X.1.1 X.1.2.1 dX0_slip_0 rfl (lv_at hl 2 rfl) k) ?_
  refine J.pu (fun _ _ _ _ k => lv_iconst (v := 0) X.1.1 X.1.2.1 dX0_slip_1 (by decide) k) ?_
  refine J.pu (fun _ _ _ _ k => W.rload_n X.1.1 X.1.2.1 dX0_slip_2 rfl (lv_at hl 0 rfl) k) ?_
  refine J.pu (fun _ _ _ _ k => lv_iload_n X.1.1 X.1.2.1 dX0_slip_3 rfl (lv_at hl 1 rfl) k) ?_
  refine J.bind (fun o4 g4 => ?_)
  refine J.hV (q := (RX1, TX1, 9)) (ci := 0) (As := [.int a1]) (rest := [.int 0, va_rf a2]) X ⟨rfl, rfl⟩ (ct_X1_slip l hfl G n σ o4 a1) (fun _ _ => cwV 1 X.1.2.2.2.2 (lw_V q2649 q2650 q2651 q138 q2652) rfl rfl rfl (by decide +kernel) ⟨(Nat.le_of_ble_eq_true rfl), (Nat.le_of_ble_eq_true rfl)⟩) g4 rfl rfl hl.1 rfl (by simp [va_rf_cat, jcI, jcA, jcJ, jcD, jcF]) dX0_slip_4 (fun v4 S4 h4 => ?_) (fun k4 q4 S4 h4 => ?_)
  · refine J.geq (g2 := F0 m 7 ls [.int v4, .int 0, va_rf a2]) rfl ?_
    refine J.pu (fun _ _ _ _ k => lv_i2l (v := v4.toInt64) X.1.1 X.1.2.1 dX0_slip_7 rfl k) ?_
    refine J.sJ' X dX0_slip_8 (fun S8 h8 => ?_)
    refine J.pu (fun _ _ _ _ k => lv_goto (tgt := 18) X.1.1 X.1.2.1 dX0_slip_9 (by decide) k) ?_
    refine J.pu (fun _ _ _ _ k => lv_iconst (v := 0) X.1.1 X.1.2.1 dX0_slip_18 (by decide) k) ?_
    exact J.iret (vr := fun t : Int32 × jH => jrI t.1) (fin := Prod.snd) (t := t) X hr (by rfl) (by rfl) dX0_slip_19
  · refine Jx.ite (fun k4_1 => ?_) (fun k4_1 => ?_)
    · refine Jx.catch_ (E := "java/lang/IllegalStateException") (nm := "java/lang/IllegalStateException") X k4_1 rfl [(⟨0, 9, 12, 22⟩ : ExceptionTableEntry)] (⟨0, 9, 15, 73⟩ : ExceptionTableEntry) [] (htab.trans rfl) (List.forall_mem_cons.mpr ⟨(Or.inr ⟨by decide, "java/lang/IndexOutOfBoundsException", q2420, List.mem_of_getElem? (i := 1) rfl⟩), jnil_all⟩) rfl (by decide) q2624 jnc13 ?_
      refine J.astore_n (r := (some q4)) (i := 3) (lv' := [(3, va_rf (some q4)), (0, va_rf a0), (1, .int a1), (2, va_rf a2)]) X.1.1 X.1.2.1 dX0_slip_15 rfl hl (by decide) (by first | rfl | simp [va_rf_cat, jcI, jcA, jcJ, jcD, jcF]) (fun ls hl => ?_)
      refine J.pu (fun _ _ _ _ k => lv_iconst (v := 2) X.1.1 X.1.2.1 dX0_slip_16 (by decide) k) ?_
      exact J.iret (vr := fun t : Int32 × jH => jrI t.1) (fin := Prod.snd) (t := t) X hr (by rfl) (by rfl) dX0_slip_17
    refine Jx.ite (fun k4_2 => ?_) (fun k4_2 => ?_)
    · refine Jx.catch_ (E := "java/lang/IndexOutOfBoundsException") (nm := "java/lang/IndexOutOfBoundsException") X k4_2 rfl [] (⟨0, 9, 12, 22⟩ : ExceptionTableEntry) [(⟨0, 9, 15, 73⟩ : ExceptionTableEntry)] (htab.trans rfl) jnil_all rfl (by decide) q2420 jnc4 ?_
      refine J.astore_n (r := (some q4)) (i := 3) (lv' := [(3, va_rf (some q4)), (0, va_rf a0), (1, .int a1), (2, va_rf a2)]) X.1.1 X.1.2.1 dX0_slip_12 rfl hl (by decide) (by first | rfl | simp [va_rf_cat, jcI, jcA, jcJ, jcD, jcF]) (fun ls hl => ?_)
      refine J.pu (fun _ _ _ _ k => lv_iconst (v := 1) X.1.1 X.1.2.1 dX0_slip_13 (by decide) k) ?_
      exact J.iret (vr := fun t : Int32 × jH => jrI t.1) (fin := Prod.snd) (t := t) X hr (by rfl) (by rfl) dX0_slip_14
    exact Jx.nil_
noncomputable def X0_empty_b (G : jG) (n : Nat) (σ : jH) (a0 : Option Nat) (a1 : Int32) (a2 : Option Nat) : Option (Int32 × jH) :=
  (rc σ a0 0).bind fun o4 => tc (X1_empty G n σ o4 a1) (fun v4 S4 => (sJ G S4 a2 0 v4.toInt64).bind fun S8 => some (0, S8)) (fun k4 q4 S4 => if k4 = 2 then (some (1, S4)) else none)
noncomputable def X0_empty (G : jG) (n : Nat) (σ : jH) (a0 : Option Nat) (a1 : Int32) (a2 : Option Nat) : Option (Int32 × jH) := jck σ (X0_empty_b G n σ a0 a1 a2)
set_option maxHeartbeats 4000000 in
set_option maxRecDepth 100000 in
theorem ct_X0_empty (l : Launch) (hfl : l.stackTraces = false) (G : jG) (n : Nat) (σ : jH) (a0 : Option Nat) (a1 : Int32) (a2 : Option Nat) : jCt l G yX0_empty (wsW_ yX0_empty cX0_empty 4 (some .int) [(0, 9, 12, 22)]) 27 1355 jrI [va_rf a0, .int a1, va_rf a2] σ (X0_empty G n σ a0 a1 a2) := by
  refine jCt.wrH (hh := [(0, 9, 12, 22)]) (lv := [(0, va_rf a0), (1, .int a1), (2, va_rf a2)]) (plainFor_of_name (by decide)) (by simp [lg_sl, va_rf_cat, jcI, jcA, jcJ, jcD, jcF]) (by simp [lv_args, va_rf_cat, jcI, jcA, jcJ, jcD, jcF]) ?_
  intro t p e s m args below meth c ls X hr hnm htab hl
  have X : jCx p c cX0_empty 4 s m args RX0 G meth := X
  unfold X0_empty_b
  refine J.pu (fun _ _ _ _ k => W.rload_n X.1.1 X.1.2.1 dX0_empty_0 rfl (lv_at hl 2 rfl) k) ?_
  refine J.pu (fun _ _ _ _ k => lv_iconst (v := 0) X.1.1 X.1.2.1 dX0_empty_1 (by decide) k) ?_
  refine J.pu (fun _ _ _ _ k => W.rload_n X.1.1 X.1.2.1 dX0_empty_2 rfl (lv_at hl 0 rfl) k) ?_
  refine J.pu (fun _ _ _ _ k => lv_iload_n X.1.1 X.1.2.1 dX0_empty_3 rfl (lv_at hl 1 rfl) k) ?_
  refine J.bind (fun o4 g4 => ?_)
  refine J.hV (q := (RX1, TX1, 9)) (ci := 0) (As := [.int a1]) (rest := [.int 0, va_rf a2]) X ⟨rfl, rfl⟩ (ct_X1_empty l hfl G n σ o4 a1) (fun _ _ => cwV 1 X.1.2.2.2.2 (lw_V q2657 q2658 q2659 q138 q2660) rfl rfl rfl (by decide +kernel) ⟨(Nat.le_of_ble_eq_true rfl), (Nat.le_of_ble_eq_true rfl)⟩) g4 rfl rfl hl.1 rfl (by simp [va_rf_cat, jcI, jcA, jcJ, jcD, jcF]) dX0_empty_4 (fun v4 S4 h4 => ?_) (fun k4 q4 S4 h4 => ?_)
  · refine J.geq (g2 := F0 m 7 ls [.int v4, .int 0, va_rf a2]) rfl ?_
    refine J.pu (fun _ _ _ _ k => lv_i2l (v := v4.toInt64) X.1.1 X.1.2.1 dX0_empty_7 rfl k) ?_
    refine J.sJ' X dX0_empty_8 (fun S8 h8 => ?_)
    refine J.pu (fun _ _ _ _ k => lv_goto (tgt := 15) X.1.1 X.1.2.1 dX0_empty_9 (by decide) k) ?_
    refine J.pu (fun _ _ _ _ k => lv_iconst (v := 0) X.1.1 X.1.2.1 dX0_empty_15 (by decide) k) ?_
    exact J.iret (vr := fun t : Int32 × jH => jrI t.1) (fin := Prod.snd) (t := t) X hr (by rfl) (by rfl) dX0_empty_16
  · refine Jx.ite (fun k4_2 => ?_) (fun k4_2 => ?_)
    · refine Jx.catch_ (E := "java/lang/IndexOutOfBoundsException") (nm := "java/lang/IndexOutOfBoundsException") X k4_2 rfl [] (⟨0, 9, 12, 22⟩ : ExceptionTableEntry) [] (htab.trans rfl) jnil_all rfl (by decide) q2420 jnc4 ?_
      refine J.astore_n (r := (some q4)) (i := 3) (lv' := [(3, va_rf (some q4)), (0, va_rf a0), (1, .int a1), (2, va_rf a2)]) X.1.1 X.1.2.1 dX0_empty_12 rfl hl (by decide) (by first | rfl | simp [va_rf_cat, jcI, jcA, jcJ, jcD, jcF]) (fun ls hl => ?_)
      refine J.pu (fun _ _ _ _ k => lv_iconst (v := 1) X.1.1 X.1.2.1 dX0_empty_13 (by decide) k) ?_
      exact J.iret (vr := fun t : Int32 × jH => jrI t.1) (fin := Prod.snd) (t := t) X hr (by rfl) (by rfl) dX0_empty_14
    exact Jx.nil_
noncomputable def X0_shut_b (G : jG) (n : Nat) (σ : jH) (a0 : Option Nat) (a1 : Int32) (a2 : Int32) (a3 : Option Nat) : Option (Int32 × jH) :=
  (rc σ a0 0).bind fun o5 => tc (X1_shut G n σ o5 a1 a2) (fun v5 S5 => (sJ G S5 a3 0 v5.toInt64).bind fun S9 => some (0, S9)) (fun k5 q5 S5 => if k5 = 2 then (some (1, S5)) else none)
noncomputable def X0_shut (G : jG) (n : Nat) (σ : jH) (a0 : Option Nat) (a1 : Int32) (a2 : Int32) (a3 : Option Nat) : Option (Int32 × jH) := jck σ (X0_shut_b G n σ a0 a1 a2 a3)
set_option maxHeartbeats 4000000 in
set_option maxRecDepth 100000 in
theorem ct_X0_shut (l : Launch) (hfl : l.stackTraces = false) (G : jG) (n : Nat) (σ : jH) (a0 : Option Nat) (a1 : Int32) (a2 : Int32) (a3 : Option Nat) : jCt l G yX0_shut (wsW_ yX0_shut cX0_shut 5 (some .int) [(0, 10, 13, 22)]) 27 1356 jrI [va_rf a0, .int a1, .int a2, va_rf a3] σ (X0_shut G n σ a0 a1 a2 a3) := by
  refine jCt.wrH (hh := [(0, 10, 13, 22)]) (lv := [(0, va_rf a0), (1, .int a1), (2, .int a2), (3, va_rf a3)]) (plainFor_of_name (by decide)) (by simp [lg_sl, va_rf_cat, jcI, jcA, jcJ, jcD, jcF]) (by simp [lv_args, va_rf_cat, jcI, jcA, jcJ, jcD, jcF]) ?_
  intro t p e s m args below meth c ls X hr hnm htab hl
  have X : jCx p c cX0_shut 5 s m args RX0 G meth := X
  unfold X0_shut_b
  refine J.pu (fun _ _ _ _ k => W.rload_n X.1.1 X.1.2.1 dX0_shut_0 rfl (lv_at hl 3 rfl) k) ?_
  refine J.pu (fun _ _ _ _ k => lv_iconst (v := 0) X.1.1 X.1.2.1 dX0_shut_1 (by decide) k) ?_
  refine J.pu (fun _ _ _ _ k => W.rload_n X.1.1 X.1.2.1 dX0_shut_2 rfl (lv_at hl 0 rfl) k) ?_
  refine J.pu (fun _ _ _ _ k => lv_iload_n X.1.1 X.1.2.1 dX0_shut_3 rfl (lv_at hl 1 rfl) k) ?_
  refine J.pu (fun _ _ _ _ k => lv_iload_n X.1.1 X.1.2.1 dX0_shut_4 rfl (lv_at hl 2 rfl) k) ?_
  refine J.bind (fun o5 g5 => ?_)
  refine J.hV (q := (RX1, TX1, 9)) (ci := 0) (As := [.int a1, .int a2]) (rest := [.int 0, va_rf a3]) X ⟨rfl, rfl⟩ (ct_X1_shut l hfl G n σ o5 a1 a2) (fun _ _ => cwV 2 X.1.2.2.2.2 (lw_V q2664 q2665 q2666 q138 q2667) rfl rfl rfl (by decide +kernel) ⟨(Nat.le_of_ble_eq_true rfl), (Nat.le_of_ble_eq_true rfl)⟩) g5 rfl rfl hl.1 rfl (by simp [va_rf_cat, jcI, jcA, jcJ, jcD, jcF]) dX0_shut_5 (fun v5 S5 h5 => ?_) (fun k5 q5 S5 h5 => ?_)
  · refine J.geq (g2 := F0 m 8 ls [.int v5, .int 0, va_rf a3]) rfl ?_
    refine J.pu (fun _ _ _ _ k => lv_i2l (v := v5.toInt64) X.1.1 X.1.2.1 dX0_shut_8 rfl k) ?_
    refine J.sJ' X dX0_shut_9 (fun S9 h9 => ?_)
    refine J.pu (fun _ _ _ _ k => lv_goto (tgt := 17) X.1.1 X.1.2.1 dX0_shut_10 (by decide) k) ?_
    refine J.pu (fun _ _ _ _ k => lv_iconst (v := 0) X.1.1 X.1.2.1 dX0_shut_17 (by decide) k) ?_
    exact J.iret (vr := fun t : Int32 × jH => jrI t.1) (fin := Prod.snd) (t := t) X hr (by rfl) (by rfl) dX0_shut_18
  · refine Jx.ite (fun k5_2 => ?_) (fun k5_2 => ?_)
    · refine Jx.catch_ (E := "java/lang/IndexOutOfBoundsException") (nm := "java/lang/IndexOutOfBoundsException") X k5_2 rfl [] (⟨0, 10, 13, 22⟩ : ExceptionTableEntry) [] (htab.trans rfl) jnil_all rfl (by decide) q2420 jnc4 ?_
      refine J.astore (r := (some q5)) (lv' := [(4, va_rf (some q5)), (0, va_rf a0), (1, .int a1), (2, .int a2), (3, va_rf a3)]) X.1.1 X.1.2.1 dX0_shut_13 hl (by decide) (by first | rfl | simp [va_rf_cat, jcI, jcA, jcJ, jcD, jcF]) (fun ls hl => ?_)
      refine J.pu (fun _ _ _ _ k => lv_iconst (v := 1) X.1.1 X.1.2.1 dX0_shut_15 (by decide) k) ?_
      exact J.iret (vr := fun t : Int32 × jH => jrI t.1) (fin := Prod.snd) (t := t) X hr (by rfl) (by rfl) dX0_shut_16
    exact Jx.nil_
noncomputable def X0_set_b (G : jG) (n : Nat) (σ : jH) (a0 : Option Nat) (a1 : Int32) (a2 : Int32) (a3 : Option Nat) : Option (Int32 × jH) :=
  (rc σ a0 0).bind fun o5 => tc (X1_set G n σ o5 a1 a2) (fun v5 S5 => (sJ G S5 a3 0 v5.toInt64).bind fun S9 => some (0, S9)) (fun k5 q5 S5 => if k5 = 0 then (some (2, S5)) else if k5 = 2 then (some (1, S5)) else none)
noncomputable def X0_set (G : jG) (n : Nat) (σ : jH) (a0 : Option Nat) (a1 : Int32) (a2 : Int32) (a3 : Option Nat) : Option (Int32 × jH) := jck σ (X0_set_b G n σ a0 a1 a2 a3)
set_option maxHeartbeats 4000000 in
set_option maxRecDepth 100000 in
theorem ct_X0_set (l : Launch) (hfl : l.stackTraces = false) (G : jG) (n : Nat) (σ : jH) (a0 : Option Nat) (a1 : Int32) (a2 : Int32) (a3 : Option Nat) : jCt l G yX0_set (wsW_ yX0_set cX0_set 5 (some .int) [(0, 10, 13, 22), (0, 10, 17, 13)]) 27 1354 jrI [va_rf a0, .int a1, .int a2, va_rf a3] σ (X0_set G n σ a0 a1 a2 a3) := by
  refine jCt.wrH (hh := [(0, 10, 13, 22), (0, 10, 17, 13)]) (lv := [(0, va_rf a0), (1, .int a1), (2, .int a2), (3, va_rf a3)]) (plainFor_of_name (by decide)) (by simp [lg_sl, va_rf_cat, jcI, jcA, jcJ, jcD, jcF]) (by simp [lv_args, va_rf_cat, jcI, jcA, jcJ, jcD, jcF]) ?_
  intro t p e s m args below meth c ls X hr hnm htab hl
  have X : jCx p c cX0_set 5 s m args RX0 G meth := X
  unfold X0_set_b
  refine J.pu (fun _ _ _ _ k => W.rload_n X.1.1 X.1.2.1 dX0_set_0 rfl (lv_at hl 3 rfl) k) ?_
  refine J.pu (fun _ _ _ _ k => lv_iconst (v := 0) X.1.1 X.1.2.1 dX0_set_1 (by decide) k) ?_
  refine J.pu (fun _ _ _ _ k => W.rload_n X.1.1 X.1.2.1 dX0_set_2 rfl (lv_at hl 0 rfl) k) ?_
  refine J.pu (fun _ _ _ _ k => lv_iload_n X.1.1 X.1.2.1 dX0_set_3 rfl (lv_at hl 1 rfl) k) ?_
  refine J.pu (fun _ _ _ _ k => lv_iload_n X.1.1 X.1.2.1 dX0_set_4 rfl (lv_at hl 2 rfl) k) ?_
  refine J.bind (fun o5 g5 => ?_)
  refine J.hV (q := (RX1, TX1, 9)) (ci := 0) (As := [.int a1, .int a2]) (rest := [.int 0, va_rf a3]) X ⟨rfl, rfl⟩ (ct_X1_set l hfl G n σ o5 a1 a2) (fun _ _ => cwV 2 X.1.2.2.2.2 (lw_V q2671 q2672 q2673 q138 q2674) rfl rfl rfl (by decide +kernel) ⟨(Nat.le_of_ble_eq_true rfl), (Nat.le_of_ble_eq_true rfl)⟩) g5 rfl rfl hl.1 rfl (by simp [va_rf_cat, jcI, jcA, jcJ, jcD, jcF]) dX0_set_5 (fun v5 S5 h5 => ?_) (fun k5 q5 S5 h5 => ?_)
  · refine J.geq (g2 := F0 m 8 ls [.int v5, .int 0, va_rf a3]) rfl ?_
    refine J.pu (fun _ _ _ _ k => lv_i2l (v := v5.toInt64) X.1.1 X.1.2.1 dX0_set_8 rfl k) ?_
    refine J.sJ' X dX0_set_9 (fun S9 h9 => ?_)
    refine J.pu (fun _ _ _ _ k => lv_goto (tgt := 21) X.1.1 X.1.2.1 dX0_set_10 (by decide) k) ?_
    refine J.pu (fun _ _ _ _ k => lv_iconst (v := 0) X.1.1 X.1.2.1 dX0_set_21 (by decide) k) ?_
    exact J.iret (vr := fun t : Int32 × jH => jrI t.1) (fin := Prod.snd) (t := t) X hr (by rfl) (by rfl) dX0_set_22
  · refine Jx.ite (fun k5_0 => ?_) (fun k5_0 => ?_)
    · refine Jx.catch_ (E := "java/lang/IllegalArgumentException") (nm := "java/lang/IllegalArgumentException") X k5_0 rfl [(⟨0, 10, 13, 22⟩ : ExceptionTableEntry)] (⟨0, 10, 17, 13⟩ : ExceptionTableEntry) [] (htab.trans rfl) (List.forall_mem_cons.mpr ⟨(Or.inr ⟨by decide, "java/lang/IndexOutOfBoundsException", q2420, List.mem_of_getElem? (i := 0) rfl⟩), jnil_all⟩) rfl (by decide) q2385 jnc0 ?_
      refine J.astore (r := (some q5)) (lv' := [(4, va_rf (some q5)), (0, va_rf a0), (1, .int a1), (2, .int a2), (3, va_rf a3)]) X.1.1 X.1.2.1 dX0_set_17 hl (by decide) (by first | rfl | simp [va_rf_cat, jcI, jcA, jcJ, jcD, jcF]) (fun ls hl => ?_)
      refine J.pu (fun _ _ _ _ k => lv_iconst (v := 2) X.1.1 X.1.2.1 dX0_set_19 (by decide) k) ?_
      exact J.iret (vr := fun t : Int32 × jH => jrI t.1) (fin := Prod.snd) (t := t) X hr (by rfl) (by rfl) dX0_set_20
    refine Jx.ite (fun k5_2 => ?_) (fun k5_2 => ?_)
    · refine Jx.catch_ (E := "java/lang/IndexOutOfBoundsException") (nm := "java/lang/IndexOutOfBoundsException") X k5_2 rfl [] (⟨0, 10, 13, 22⟩ : ExceptionTableEntry) [(⟨0, 10, 17, 13⟩ : ExceptionTableEntry)] (htab.trans rfl) jnil_all rfl (by decide) q2420 jnc4 ?_
      refine J.astore (r := (some q5)) (lv' := [(4, va_rf (some q5)), (0, va_rf a0), (1, .int a1), (2, .int a2), (3, va_rf a3)]) X.1.1 X.1.2.1 dX0_set_13 hl (by decide) (by first | rfl | simp [va_rf_cat, jcI, jcA, jcJ, jcD, jcF]) (fun ls hl => ?_)
      refine J.pu (fun _ _ _ _ k => lv_iconst (v := 1) X.1.1 X.1.2.1 dX0_set_15 (by decide) k) ?_
      exact J.iret (vr := fun t : Int32 × jH => jrI t.1) (fin := Prod.snd) (t := t) X hr (by rfl) (by rfl) dX0_set_16
    exact Jx.nil_
noncomputable def X0_restoreState_b (G : jG) (n : Nat) (σ : jH) (a0 : Option Nat) (a1 : Option Nat) : Option (Int32 × jH) :=
  (rc σ a0 0).bind fun o3 => tc (X1_restoreState G n σ o3) (fun v3 S3 => (sJ G S3 a1 0 v3.toInt64).bind fun S7 => some (0, S7)) (fun k3 q3 S3 => if k3 = 3 then (some (1, S3)) else none)
noncomputable def X0_restoreState (G : jG) (n : Nat) (σ : jH) (a0 : Option Nat) (a1 : Option Nat) : Option (Int32 × jH) := jck σ (X0_restoreState_b G n σ a0 a1)
set_option maxHeartbeats 4000000 in
set_option maxRecDepth 100000 in
theorem ct_X0_restoreState (l : Launch) (hfl : l.stackTraces = false) (G : jG) (n : Nat) (σ : jH) (a0 : Option Nat) (a1 : Option Nat) : jCt l G yX0_restoreState (wsW_ yX0_restoreState cX0_restoreState 3 (some .int) [(0, 8, 11, 95)]) 26 1332 jrI [va_rf a0, va_rf a1] σ (X0_restoreState G n σ a0 a1) := by
  refine jCt.wrH (hh := [(0, 8, 11, 95)]) (lv := [(0, va_rf a0), (1, va_rf a1)]) (plainFor_of_name (by decide)) (by simp [lg_sl, va_rf_cat, jcI, jcA, jcJ, jcD, jcF]) (by simp [lv_args, va_rf_cat, jcI, jcA, jcJ, jcD, jcF]) ?_
  intro t p e s m args below meth c ls X hr hnm htab hl
  have X : jCx p c cX0_restoreState 3 s m args RX0 G meth := X
  unfold X0_restoreState_b
  refine J.pu (fun _ _ _ _ k => W.rload_n X.1.1 X.1.2.1 dX0_restoreState_0 rfl (lv_at hl 1 rfl) k) ?_
  refine J.pu (fun _ _ _ _ k => lv_iconst (v := 0) X.1.1 X.1.2.1 dX0_restoreState_1 (by decide) k) ?_
  refine J.pu (fun _ _ _ _ k => W.rload_n X.1.1 X.1.2.1 dX0_restoreState_2 rfl (lv_at hl 0 rfl) k) ?_
  refine J.bind (fun o3 g3 => ?_)
  refine J.hV (q := (RX1, TX1, 9)) (ci := 0) (As := []) (rest := [.int 0, va_rf a1]) X ⟨rfl, rfl⟩ (ct_X1_restoreState l hfl G n σ o3) (fun _ _ => cwV 0 X.1.2.2.2.2 (lw_V q2708 q2709 q2710 q138 q2711) rfl rfl rfl (by decide +kernel) ⟨(Nat.le_of_ble_eq_true rfl), (Nat.le_of_ble_eq_true rfl)⟩) g3 rfl rfl hl.1 rfl (by simp [va_rf_cat, jcI, jcA, jcJ, jcD, jcF]) dX0_restoreState_3 (fun v3 S3 h3 => ?_) (fun k3 q3 S3 h3 => ?_)
  · refine J.geq (g2 := F0 m 6 ls [.int v3, .int 0, va_rf a1]) rfl ?_
    refine J.pu (fun _ _ _ _ k => lv_i2l (v := v3.toInt64) X.1.1 X.1.2.1 dX0_restoreState_6 rfl k) ?_
    refine J.sJ' X dX0_restoreState_7 (fun S7 h7 => ?_)
    refine J.pu (fun _ _ _ _ k => lv_goto (tgt := 14) X.1.1 X.1.2.1 dX0_restoreState_8 (by decide) k) ?_
    refine J.pu (fun _ _ _ _ k => lv_iconst (v := 0) X.1.1 X.1.2.1 dX0_restoreState_14 (by decide) k) ?_
    exact J.iret (vr := fun t : Int32 × jH => jrI t.1) (fin := Prod.snd) (t := t) X hr (by rfl) (by rfl) dX0_restoreState_15
  · refine Jx.ite (fun k3_3 => ?_) (fun k3_3 => ?_)
    · refine Jx.catch_ (E := "java/util/NoSuchElementException") (nm := "java/util/NoSuchElementException") X k3_3 rfl [] (⟨0, 8, 11, 95⟩ : ExceptionTableEntry) [] (htab.trans rfl) jnil_all rfl (by decide) q2680 jnc9 ?_
      refine J.astore_n (r := (some q3)) (i := 2) (lv' := [(2, va_rf (some q3)), (0, va_rf a0), (1, va_rf a1)]) X.1.1 X.1.2.1 dX0_restoreState_11 rfl hl (by decide) (by first | rfl | simp [va_rf_cat, jcI, jcA, jcJ, jcD, jcF]) (fun ls hl => ?_)
      refine J.pu (fun _ _ _ _ k => lv_iconst (v := 1) X.1.1 X.1.2.1 dX0_restoreState_12 (by decide) k) ?_
      exact J.iret (vr := fun t : Int32 × jH => jrI t.1) (fin := Prod.snd) (t := t) X hr (by rfl) (by rfl) dX0_restoreState_13
    exact Jx.nil_
noncomputable def X1_init_b (G : jG) (n : Nat) (σ : jH) (this : Nat) : Option (Unit × jH) :=
  bd (X1_first G n σ) fun v1 S1 => bd (X1_init_2 G n S1 this v1) fun v4 S4 => some ((), S4)
noncomputable def X1_init (G : jG) (n : Nat) (σ : jH) (this : Nat) : Option (Unit × jH) := jck σ (X1_init_b G n σ this)
set_option maxHeartbeats 4000000 in
set_option maxRecDepth 100000 in
theorem ct_X1_init (l : Launch) (G : jG) (n : Nat) (σ : jH) (this : Nat) : jCt l G yX1_init (ws_ yX1_init cX1_init 1 none) 26 1333 jrV [.ref this] σ (X1_init G n σ this) := by
  refine jCt.wr (lv := [(0, .ref this)]) (plainFor_of_name (by decide)) (Nat.le_of_ble_eq_true rfl) rfl ?_
  intro t p e s m args below meth c ls X hr hnm hl
  have X : jCx p c cX1_init 1 s m args RX1 G meth := X
  unfold X1_init_b
  refine J.pu (fun _ _ _ _ k => lv_aload_n X.1.1 X.1.2.1 dX1_init_0 rfl (lv_at hl 0 rfl) k) ?_
  refine J.bd' (fun v1 S1 h1 => ?_)
  refine J.cS (As := []) (rest := [.ref this]) (s2 := [va_rf v1, .ref this]) X ⟨rfl, rfl⟩ (ct_X1_first l G n σ) h1 (fun _ _ => va_cwS 0 X.1.2.2.2.2 (lw_S q199 q200 q138 q201) rfl rfl rfl (by decide +kernel) ⟨(Nat.le_of_ble_eq_true rfl), (Nat.le_of_ble_eq_true rfl)⟩) rfl hl.1 rfl rfl (Nat.le_of_ble_eq_true rfl) dX1_init_1 ?_
  refine J.bd' (fun v4 S4 h4 => ?_)
  refine J.cI (a := this) (As := [va_rf v1]) (rest := []) (s2 := []) X ⟨rfl, rfl⟩ (ct_X1_init_2 l G n S1 this v1) h4 (fun _ _ => jcwI 1 X.1.2.2.2.2 q799 q800 q138 q801 rfl rfl rfl (by decide +kernel) ⟨(Nat.le_of_ble_eq_true rfl), (Nat.le_of_ble_eq_true rfl)⟩) rfl hl.1 rfl rfl (Nat.le_of_ble_eq_true rfl) dX1_init_4 ?_
  exact J.vret (vr := fun t : Unit × jH => jrV t.1) (fin := Prod.snd) (t := t) X hr (by rfl) (by rfl) dX1_init_7
noncomputable def X1_loadLoop_b (G : jG) (n : Nat) (σ : jH) (this : Nat) : Option (Int32 × jH) :=
  (rc σ (some this) 0).bind fun o1 => bd (X1_startsText G n σ o1) fun v1 S1 => bd (nO S1 6 [.int 0, .int 0, .int 0, .int 0, .null, .null, .null, .null] 8) fun v5 S5 => bd (X8_init G n S5 v5 (some this)) fun v10 S10 => (rc S10 (some v5) 6).bind fun o13 => tc (X8_read G n S10 o13) (fun v13 S13 => (pR G S13 (some this) 0 4 v13).bind fun S16 => (gR S16 (some this) 0 4).bind fun v21 => (rc S16 v21 1).bind fun o24 => bd (X2_twin G n S16 o24) fun v24 S24 => (pR G S24 (some this) 0 6 v24).bind fun S27 => (gR S27 (some this) 0 7).bind fun v31 => (rc S27 v31 18).bind fun o34 => bd (jck S27 (dqClear G S27 o34)) fun v34 S34 => (pR G S34 (some this) 0 5 none).bind fun S39 => (gR S39 (some this) 0 4).bind fun v43 => (gR S39 v43 1 3).bind fun v46 => (rc S39 v46 15).bind fun o49 => (lSize 0 S39 o49).bind fun v49 => (pI G S39 (some this) 0 1 0).bind fun S57 => some (v49, S57)) (fun k13 q13 S13 => if k13 = 4 then ((rc S13 (some this) 0).bind fun o65 => bd (X1_fails G n S13 o65 (some q13)) fun v65 S65 => (pI G S65 (some this) 0 1 0).bind fun S71 => some (v65, S71)) else none)
noncomputable def X1_loadLoop (G : jG) (n : Nat) (σ : jH) (this : Nat) : Option (Int32 × jH) := jck σ (X1_loadLoop_b G n σ this)
set_option maxHeartbeats 4000000 in
set_option maxRecDepth 100000 in
theorem ct_X1_loadLoop (l : Launch) (hfl : l.stackTraces = false) (G : jG) (n : Nat) (σ : jH) (this : Nat) : jCt l G yX1_loadLoop (wsW_ yX1_loadLoop cX1_loadLoop 4 (some .int) [(4, 55, 62, 99), (4, 55, 76, 0), (62, 69, 76, 0)]) 27 1355 jrI [.ref this] σ (X1_loadLoop G n σ this) := by
  refine jCt.wrH (hh := [(4, 55, 62, 99), (4, 55, 76, 0), (62, 69, 76, 0)]) (lv := [(0, .ref this)]) (plainFor_of_name (by decide)) (Nat.le_of_ble_eq_true rfl) rfl ?_
  intro t p e s m args below meth c ls X hr hnm htab hl
  have X : jCx p c cX1_loadLoop 4 s m args RX1 G meth := X
  unfold X1_loadLoop_b
  refine J.pu (fun _ _ _ _ k => lv_aload_n X.1.1 X.1.2.1 dX1_loadLoop_0 rfl (lv_at hl 0 rfl) k) ?_
  refine J.bind (fun o1 g1 => ?_)
  refine J.bd' (fun v1 S1 h1 => ?_)
  refine J.cV (q := (RX1, TX1, 9)) (ci := 0) (As := []) (rest := []) (s2 := []) X ⟨rfl, rfl⟩ (ct_X1_startsText l G n σ o1) h1 (fun _ _ => cwV 0 X.1.2.2.2.2 (lw_V q1373 q1375 qs14 q138 q1376) rfl rfl rfl (by decide +kernel) ⟨(Nat.le_of_ble_eq_true rfl), (Nat.le_of_ble_eq_true rfl)⟩) g1 rfl rfl hl.1 rfl rfl (Nat.le_of_ble_eq_true rfl) dX1_loadLoop_1 ?_
  refine J.pu (fun _ _ _ _ k => lv_aload_n X.1.1 X.1.2.1 dX1_loadLoop_4 rfl (lv_at hl 0 rfl) k) ?_
  refine J.nO' (fs := [.int 0, .int 0, .int 0, .int 0, .null, .null, .null, .null]) X ⟨rfl, rfl⟩ in_X8 (show jCl[6]? = some (RX8, TX8, 8) from rfl) tyX8 tyX8_ok q1377 q1378 q176 rfl dX1_loadLoop_5 (fun v5 S5 h5 => ?_)
  refine J.pu (fun _ _ _ _ k => lv_dup X.1.1 X.1.2.1 dX1_loadLoop_8 rfl k) ?_
  refine J.pu (fun _ _ _ _ k => lv_aload_n X.1.1 X.1.2.1 dX1_loadLoop_9 rfl (lv_at hl 0 rfl) k) ?_
  refine J.bd' (fun v10 S10 h10 => ?_)
  refine J.cIN (a := v5) (As := [.ref this]) (rest := [.ref v5, .ref this]) (s2 := [.ref v5, .ref this]) X ⟨rfl, rfl⟩ (ct_X8_init l G n S5 v5 (some this)) h10 (fun _ _ => ⟨va_cnB 1 X.1.2.2.2.2 (lw_meth q1381) rfl rfl rfl (jnm0 X.2.1) (X.1.2.2.2.2 _ q176) (by decide +kernel) ⟨(Nat.le_of_ble_eq_true rfl), (Nat.le_of_ble_eq_true rfl)⟩, rfl, X.1.2.2.2.2 _ q1380⟩) rfl hl.1 rfl rfl (Nat.le_of_ble_eq_true rfl) dX1_loadLoop_10 ?_
  refine J.bind (fun o13 g13 => ?_)
  refine J.hV (q := (RX8, TX8, 8)) (ci := 6) (As := []) (rest := [.ref this]) X ⟨rfl, rfl⟩ (ct_X8_read l hfl G n S10 o13) (fun _ _ => cwV 0 X.1.2.2.2.2 (lw_V q1542 q1543 q1544 q176 q1545) rfl rfl rfl (by decide +kernel) ⟨(Nat.le_of_ble_eq_true rfl), (Nat.le_of_ble_eq_true rfl)⟩) g13 rfl rfl hl.1 rfl (Nat.le_of_ble_eq_true rfl) dX1_loadLoop_13 (fun v13 S13 h13 => ?_) (fun k13 q13 S13 h13 => ?_)
  · refine J.geq (g2 := F0 m 16 ls [va_rf v13, .ref this]) rfl ?_
    refine J.putR (k := 4) (ci := 0) X in_X1 (show jCl[0]? = some (RX1, TX1, 9) from rfl) tyX1_ok (fun a ha b hb h => Or.inl (nmX1 a ha b hb h)) (by decide) q1329 (fun _ h => h) rfl (Or.inl ⟨_, rfl⟩) dX1_loadLoop_16 (fun S16 h16 => ?_)
    refine J.pu (fun _ _ _ _ k => lv_aload_n X.1.1 X.1.2.1 dX1_loadLoop_19 rfl (lv_at hl 0 rfl) k) ?_
    refine J.pu (fun _ _ _ _ k => lv_aload_n X.1.1 X.1.2.1 dX1_loadLoop_20 rfl (lv_at hl 0 rfl) k) ?_
    refine J.getR (k := 4) (ci := 0) X in_X1 (show jCl[0]? = some (RX1, TX1, 9) from rfl) (by decide) q1329 (fun _ h => h) dX1_loadLoop_21 (fun v21 h21 => ?_)
    refine J.bind (fun o24 g24 => ?_)
    refine J.bd' (fun v24 S24 h24 => ?_)
    refine J.cV (q := (RX2, TX2, 9)) (ci := 1) (As := []) (rest := [.ref this]) (s2 := [va_rf v24, .ref this]) X ⟨rfl, rfl⟩ (ct_X2_twin l G n S16 o24) h24 (fun _ _ => cwV 0 X.1.2.2.2.2 (lw_V q822 q823 q824 q139 q825) rfl rfl rfl (by decide +kernel) ⟨(Nat.le_of_ble_eq_true rfl), (Nat.le_of_ble_eq_true rfl)⟩) g24 rfl rfl hl.1 rfl rfl (Nat.le_of_ble_eq_true rfl) dX1_loadLoop_24 ?_
    refine J.putR (k := 6) (ci := 0) X in_X1 (show jCl[0]? = some (RX1, TX1, 9) from rfl) tyX1_ok (fun a ha b hb h => Or.inl (nmX1 a ha b hb h)) (by decide) q1331 (fun _ h => h) rfl (Or.inl ⟨_, rfl⟩) dX1_loadLoop_27 (fun S27 h27 => ?_)
    refine J.pu (fun _ _ _ _ k => lv_aload_n X.1.1 X.1.2.1 dX1_loadLoop_30 rfl (lv_at hl 0 rfl) k) ?_
    refine J.getR (k := 7) (ci := 0) X in_X1 (show jCl[0]? = some (RX1, TX1, 9) from rfl) (by decide) q1332 (fun _ h => h) dX1_loadLoop_31 (fun v31 h31 => ?_)
    refine J.bind (fun o34 g34 => ?_)
    refine J.bd' (fun v34 S34 h34 => ?_)
    refine J.cV (q := (RJ20, TJ20, 3)) (ci := 18) (As := []) (rest := []) (s2 := []) X ⟨rfl, rfl⟩ (ct_J20_clear l G S27 o34) h34 (fun _ _ => cwV 0 X.1.2.2.2.2 (lw_V q1743 q1744 q1745 q164 q1746) rfl rfl rfl (by decide +kernel) ⟨(Nat.le_of_ble_eq_true rfl), (Nat.le_of_ble_eq_true rfl)⟩) g34 rfl rfl hl.1 rfl rfl (Nat.le_of_ble_eq_true rfl) dX1_loadLoop_34 ?_
    refine J.pu (fun _ _ _ _ k => lv_aload_n X.1.1 X.1.2.1 dX1_loadLoop_37 rfl (lv_at hl 0 rfl) k) ?_
    refine J.pu (fun _ _ _ _ k => lv_null X.1.1 X.1.2.1 dX1_loadLoop_38 k) ?_
    refine J.putR (k := 5) (ci := 0) X in_X1 (show jCl[0]? = some (RX1, TX1, 9) from rfl) tyX1_ok (fun a ha b hb h => Or.inl (nmX1 a ha b hb h)) (by decide) q1330 (fun _ h => h) rfl (Or.inl ⟨_, rfl⟩) dX1_loadLoop_39 (fun S39 h39 => ?_)
    refine J.pu (fun _ _ _ _ k => lv_aload_n X.1.1 X.1.2.1 dX1_loadLoop_42 rfl (lv_at hl 0 rfl) k) ?_
    refine J.getR (k := 4) (ci := 0) X in_X1 (show jCl[0]? = some (RX1, TX1, 9) from rfl) (by decide) q1329 (fun _ h => h) dX1_loadLoop_43 (fun v43 h43 => ?_)
    refine J.getRN (k := 3) (ci := 1) X in_X2 (show jCl[1]? = some (RX2, TX2, 9) from rfl) (by decide) jnf8 (fun _ h => h) dX1_loadLoop_46 (fun v46 h46 => ?_)
    refine J.bind (fun o49 g49 => ?_)
    refine J.bind (fun v49 h49 => ?_)
    refine J.cF (q := (RJ2, TJ2, 3)) (ci := 15) (As := []) (rest := []) (s2 := [.int v49]) X ⟨rfl, rfl⟩ (ct_J2_size l G S39 o49) (jrd_of h49) (fun _ _ => va_cwF 0 X.1.2.2.2.2 (lw_F q1751 q832 q834 q142 q836) rfl rfl rfl (jfw2 X.2.1) (by decide +kernel) ⟨(Nat.le_of_ble_eq_true rfl), (Nat.le_of_ble_eq_true rfl)⟩) g49 rfl rfl hl.1 rfl rfl (Nat.le_of_ble_eq_true rfl) dX1_loadLoop_49 ?_
    refine J.istore_n (i := 1) (lv' := [(1, .int v49), (0, .ref this)]) X.1.1 X.1.2.1 dX1_loadLoop_54 rfl hl (by decide) (by first | rfl | simp [va_rf_cat, jcI, jcA, jcJ, jcD, jcF]) (fun ls hl => ?_)
    refine J.pu (fun _ _ _ _ k => lv_aload_n X.1.1 X.1.2.1 dX1_loadLoop_55 rfl (lv_at hl 1 rfl) k) ?_
    refine J.pu (fun _ _ _ _ k => lv_iconst (v := 0) X.1.1 X.1.2.1 dX1_loadLoop_56 (by decide) k) ?_
    refine J.putI (k := 1) (ci := 0) X in_X1 (show jCl[0]? = some (RX1, TX1, 9) from rfl) tyX1_ok (fun a ha b hb h => Or.inl (nmX1 a ha b hb h)) (by decide) q1325 (fun _ h => h) rfl rfl dX1_loadLoop_57 (fun S57 h57 => ?_)
    refine J.pu (fun _ _ _ _ k => lv_iload_n X.1.1 X.1.2.1 dX1_loadLoop_60 rfl (lv_at hl 0 rfl) k) ?_
    exact J.iret (vr := fun t : Int32 × jH => jrI t.1) (fin := Prod.snd) (t := t) X hr (by rfl) (by rfl) dX1_loadLoop_61
  · refine Jx.ite (fun k13_4 => ?_) (fun k13_4 => ?_)
    · refine Jx.catch_ (E := "SortingLoop$ParseException") (nm := "SortingLoop$ParseException") X k13_4 rfl [] (⟨4, 55, 62, 99⟩ : ExceptionTableEntry) [(⟨4, 55, 76, 0⟩ : ExceptionTableEntry), (⟨62, 69, 76, 0⟩ : ExceptionTableEntry)] (htab.trans rfl) jnil_all rfl (by decide) q1372 jnc11 ?_
      refine J.astore_n (r := (some q13)) (i := 1) (lv' := [(1, va_rf (some q13)), (0, .ref this)]) X.1.1 X.1.2.1 dX1_loadLoop_62 rfl hl (by decide) (by first | rfl | simp [va_rf_cat, jcI, jcA, jcJ, jcD, jcF]) (fun ls hl => ?_)
      refine J.pu (fun _ _ _ _ k => lv_aload_n X.1.1 X.1.2.1 dX1_loadLoop_63 rfl (lv_at hl 1 rfl) k) ?_
      refine J.pu (fun _ _ _ _ k => W.rload_n X.1.1 X.1.2.1 dX1_loadLoop_64 rfl (lv_at hl 0 rfl) k) ?_
      refine J.bind (fun o65 g65 => ?_)
      refine J.bd' (fun v65 S65 h65 => ?_)
      refine J.cV (q := (RX1, TX1, 9)) (ci := 0) (As := [va_rf (some q13)]) (rest := []) (s2 := [.int v65]) X ⟨rfl, rfl⟩ (ct_X1_fails l G n S13 o65 (some q13)) h65 (fun _ _ => cwV 1 X.1.2.2.2.2 (lw_V q1752 q1754 qs22 q138 q1755) rfl rfl rfl (by decide +kernel) ⟨(Nat.le_of_ble_eq_true rfl), (Nat.le_of_ble_eq_true rfl)⟩) g65 rfl rfl hl.1 rfl rfl (Nat.le_of_ble_eq_true rfl) dX1_loadLoop_65 ?_
      refine J.istore_n (i := 2) (lv' := [(2, .int v65), (1, va_rf (some q13)), (0, .ref this)]) X.1.1 X.1.2.1 dX1_loadLoop_68 rfl hl (by decide) (by first | rfl | simp [va_rf_cat, jcI, jcA, jcJ, jcD, jcF]) (fun ls hl => ?_)
      refine J.pu (fun _ _ _ _ k => lv_aload_n X.1.1 X.1.2.1 dX1_loadLoop_69 rfl (lv_at hl 2 rfl) k) ?_
      refine J.pu (fun _ _ _ _ k => lv_iconst (v := 0) X.1.1 X.1.2.1 dX1_loadLoop_70 (by decide) k) ?_
      refine J.putI (k := 1) (ci := 0) X in_X1 (show jCl[0]? = some (RX1, TX1, 9) from rfl) tyX1_ok (fun a ha b hb h => Or.inl (nmX1 a ha b hb h)) (by decide) q1325 (fun _ h => h) rfl rfl dX1_loadLoop_71 (fun S71 h71 => ?_)
      refine J.pu (fun _ _ _ _ k => lv_iload_n X.1.1 X.1.2.1 dX1_loadLoop_74 rfl (lv_at hl 0 rfl) k) ?_
      exact J.iret (vr := fun t : Int32 × jH => jrI t.1) (fin := Prod.snd) (t := t) X hr (by rfl) (by rfl) dX1_loadLoop_75
    exact Jx.nil_
noncomputable def X1_clearIn_h7 (G : jG) (n : Nat) (this : Nat) (x1_7 : Option Nat) (rec7 : Int32 × jH → Option (Int32 × jH)) (q7 : Int32 × jH) : Option (Int32 × jH) :=
  let x2_7 := q7.1; let B7 := q7.2; if 500 < x2_7 then (some ((-1), B7)) else ((rc B7 x1_7 1).bind fun o16 => (X2_those G n B7 o16 0).bind fun v16 => if v16 = 0 then (some (x2_7, B7)) else ((rc B7 x1_7 1).bind fun o25 => bd (X2_ticks G n B7 o25) fun v25 S25 => rec7 ((x2_7 + 1), S25)))
noncomputable def X1_clearIn_b (G : jG) (n : Nat) (σ : jH) (this : Nat) : Option (Int32 × jH) :=
  (rc σ (some this) 0).bind fun o1 => bd (X1_think G n σ o1) fun v1 S1 => jloop (X1_clearIn_h7 G n this v1) n (0, S1)
noncomputable def X1_clearIn (G : jG) (n : Nat) (σ : jH) (this : Nat) : Option (Int32 × jH) := jck σ (X1_clearIn_b G n σ this)
set_option maxHeartbeats 4000000 in
set_option maxRecDepth 100000 in
theorem ct_X1_clearIn (l : Launch) (G : jG) (n : Nat) (σ : jH) (this : Nat) : jCt l G yX1_clearIn (ws_ yX1_clearIn cX1_clearIn 4 (some .int)) 26 1335 jrI [.ref this] σ (X1_clearIn G n σ this) := by
  refine jCt.wr (lv := [(0, .ref this)]) (plainFor_of_name (by decide)) (Nat.le_of_ble_eq_true rfl) rfl ?_
  intro t p e s m args below meth c ls X hr hnm hl
  have X : jCx p c cX1_clearIn 4 s m args RX1 G meth := X
  have L7 : ∀ (x1_7 : Option Nat) (n7 : Nat) (x2_7 : Int32) (B7 : jH) (ls : Array Slot), lv_has ls 4 [(1, va_rf x1_7), (2, .int x2_7)] → jGo l G 26 1335 σ (Prod.snd : Int32 × jH → jH) (fun t => jrI t.1) t p e s m args below meth c (jloop (X1_clearIn_h7 G n this x1_7) n7 (x2_7, B7)) B7 (F0 m 7 ls []) := by
    intro x1_7
    intro n7
    induction n7 with
    | zero => intro x2_7 B7 ls hl; exact J.nil_
    | succ n7 ih7 =>
      intro x2_7 B7 ls hl
      refine J.eq (jloop_s _ _ _) ?_
      dsimp only [X1_clearIn_h7]
      refine J.pu (fun _ _ _ _ k => lv_iload_n X.1.1 X.1.2.1 dX1_clearIn_7 rfl (lv_at hl 1 rfl) k) ?_
      refine J.pu (fun _ _ _ _ k => lv_sipush (v := 500) X.1.1 X.1.2.1 dX1_clearIn_8 (by decide) k) ?_
      refine J.br (fun _ _ _ _ ka kb => lv_icmp_gt (tgt := 35) X.1.1 X.1.2.1 dX1_clearIn_11 (by decide) ka kb) (fun c11 => ?_) (fun c11 => ?_)
      · refine J.pu (fun _ _ _ _ k => lv_iconst (v := (-1)) X.1.1 X.1.2.1 dX1_clearIn_35 (by decide) k) ?_
        exact J.iret (vr := fun t : Int32 × jH => jrI t.1) (fin := Prod.snd) (t := t) X hr (by rfl) (by rfl) dX1_clearIn_36
      · refine J.pu (fun _ _ _ _ k => W.rload_n X.1.1 X.1.2.1 dX1_clearIn_14 rfl (lv_at hl 0 rfl) k) ?_
        refine J.pu (fun _ _ _ _ k => lv_iconst (v := 0) X.1.1 X.1.2.1 dX1_clearIn_15 (by decide) k) ?_
        refine J.bind (fun o16 g16 => ?_)
        refine J.bind (fun v16 h16 => ?_)
        refine J.cV (q := (RX2, TX2, 9)) (ci := 1) (As := [.int 0]) (rest := []) (s2 := [.int v16]) X ⟨rfl, rfl⟩ (ct_X2_those l G n B7 o16 0) (jrd_of h16) (fun _ _ => cwV 1 X.1.2.2.2.2 (lw_V q2167 q2061 q2062 q139 q2063) rfl rfl rfl (by decide +kernel) ⟨(Nat.le_of_ble_eq_true rfl), (Nat.le_of_ble_eq_true rfl)⟩) g16 rfl rfl hl.1 rfl rfl (Nat.le_of_ble_eq_true rfl) dX1_clearIn_16 ?_
        refine J.br (fun _ _ _ _ ka kb => lv_if_ne (tgt := 24) X.1.1 X.1.2.1 dX1_clearIn_19 (by decide) kb ka) (fun c19 => ?_) (fun c19 => ?_)
        · refine J.pu (fun _ _ _ _ k => lv_iload_n X.1.1 X.1.2.1 dX1_clearIn_22 rfl (lv_at hl 1 rfl) k) ?_
          exact J.iret (vr := fun t : Int32 × jH => jrI t.1) (fin := Prod.snd) (t := t) X hr (by rfl) (by rfl) dX1_clearIn_23
        · refine J.pu (fun _ _ _ _ k => W.rload_n X.1.1 X.1.2.1 dX1_clearIn_24 rfl (lv_at hl 0 rfl) k) ?_
          refine J.bind (fun o25 g25 => ?_)
          refine J.bd' (fun v25 S25 h25 => ?_)
          refine J.cV (q := (RX2, TX2, 9)) (ci := 1) (As := []) (rest := []) (s2 := [.int v25]) X ⟨rfl, rfl⟩ (ct_X2_ticks l G n B7 o25) h25 (fun _ _ => cwV 0 X.1.2.2.2.2 (lw_V q2168 q2057 q2058 q139 q2059) rfl rfl rfl (by decide +kernel) ⟨(Nat.le_of_ble_eq_true rfl), (Nat.le_of_ble_eq_true rfl)⟩) g25 rfl rfl hl.1 rfl rfl (Nat.le_of_ble_eq_true rfl) dX1_clearIn_25 ?_
          refine J.istore_n (i := 3) (lv' := [(3, .int v25), (1, va_rf x1_7), (2, .int x2_7)]) X.1.1 X.1.2.1 dX1_clearIn_28 rfl hl (by decide) (by first | rfl | simp [va_rf_cat, jcI, jcA, jcJ, jcD, jcF]) (fun ls hl => ?_)
          refine J.iinc (k := 2) (lv' := [(2, .int (x2_7 + 1)), (3, .int v25), (1, va_rf x1_7)]) (w := (x2_7 + 1)) X.1.1 X.1.2.1 dX1_clearIn_29 hl rfl rfl (by decide) (by first | rfl | simp [va_rf_cat, jcI, jcA, jcJ, jcD, jcF]) (fun ls hl => ?_)
          refine J.pu (fun _ _ _ _ k => lv_goto (tgt := 7) X.1.1 X.1.2.1 dX1_clearIn_32 (by decide) k) ?_
          exact ih7 (x2_7 + 1) S25 ls (lv_sub hl [2, 0] rfl)
  unfold X1_clearIn_b
  refine J.pu (fun _ _ _ _ k => lv_aload_n X.1.1 X.1.2.1 dX1_clearIn_0 rfl (lv_at hl 0 rfl) k) ?_
  refine J.bind (fun o1 g1 => ?_)
  refine J.bd' (fun v1 S1 h1 => ?_)
  refine J.cV (q := (RX1, TX1, 9)) (ci := 0) (As := []) (rest := []) (s2 := [va_rf v1]) X ⟨rfl, rfl⟩ (ct_X1_think l G n σ o1) h1 (fun _ _ => cwV 0 X.1.2.2.2.2 (lw_V q2162 q2164 qs39 q138 q2165) rfl rfl rfl (by decide +kernel) ⟨(Nat.le_of_ble_eq_true rfl), (Nat.le_of_ble_eq_true rfl)⟩) g1 rfl rfl hl.1 rfl rfl (Nat.le_of_ble_eq_true rfl) dX1_clearIn_1 ?_
  refine J.astore_n (r := v1) (i := 1) (lv' := [(1, va_rf v1), (0, .ref this)]) X.1.1 X.1.2.1 dX1_clearIn_4 rfl hl (by decide) (by first | rfl | simp [va_rf_cat, jcI, jcA, jcJ, jcD, jcF]) (fun ls hl => ?_)
  refine J.pu (fun _ _ _ _ k => lv_iconst (v := 0) X.1.1 X.1.2.1 dX1_clearIn_5 (by decide) k) ?_
  refine J.istore_n (i := 2) (lv' := [(2, .int 0), (1, va_rf v1), (0, .ref this)]) X.1.1 X.1.2.1 dX1_clearIn_6 rfl hl (by decide) (by first | rfl | simp [va_rf_cat, jcI, jcA, jcJ, jcD, jcF]) (fun ls hl => ?_)
  exact L7 v1 n 0 S1 ls (lv_sub hl [1, 0] rfl)
noncomputable def X1_freeIn_h7 (G : jG) (n : Nat) (this : Nat) (x1_7 : Option Nat) (rec7 : Int32 × jH → Option (Int32 × jH)) (q7 : Int32 × jH) : Option (Int32 × jH) :=
  let x2_7 := q7.1; let B7 := q7.2; if 500 < x2_7 then (some ((-1), B7)) else ((gR B7 x1_7 1 5).bind fun v15 => (gI B7 x1_7 1 1).bind fun v19 => (rc B7 v15 2).bind fun o22 => (X3_isFree G n B7 o22 v19).bind fun v22 => if v22 = 0 then ((rc B7 x1_7 1).bind fun o31 => bd (X2_ticks G n B7 o31) fun v31 S31 => rec7 ((x2_7 + 1), S31)) else (some (x2_7, B7)))
noncomputable def X1_freeIn_b (G : jG) (n : Nat) (σ : jH) (this : Nat) : Option (Int32 × jH) :=
  (rc σ (some this) 0).bind fun o1 => bd (X1_think G n σ o1) fun v1 S1 => jloop (X1_freeIn_h7 G n this v1) n (0, S1)
noncomputable def X1_freeIn (G : jG) (n : Nat) (σ : jH) (this : Nat) : Option (Int32 × jH) := jck σ (X1_freeIn_b G n σ this)
set_option maxHeartbeats 4000000 in
set_option maxRecDepth 100000 in
theorem ct_X1_freeIn (l : Launch) (G : jG) (n : Nat) (σ : jH) (this : Nat) : jCt l G yX1_freeIn (ws_ yX1_freeIn cX1_freeIn 4 (some .int)) 26 1335 jrI [.ref this] σ (X1_freeIn G n σ this) := by
  refine jCt.wr (lv := [(0, .ref this)]) (plainFor_of_name (by decide)) (Nat.le_of_ble_eq_true rfl) rfl ?_
  intro t p e s m args below meth c ls X hr hnm hl
  have X : jCx p c cX1_freeIn 4 s m args RX1 G meth := X
  have L7 : ∀ (x1_7 : Option Nat) (n7 : Nat) (x2_7 : Int32) (B7 : jH) (ls : Array Slot), lv_has ls 4 [(1, va_rf x1_7), (2, .int x2_7)] → jGo l G 26 1335 σ (Prod.snd : Int32 × jH → jH) (fun t => jrI t.1) t p e s m args below meth c (jloop (X1_freeIn_h7 G n this x1_7) n7 (x2_7, B7)) B7 (F0 m 7 ls []) := by
    intro x1_7
    intro n7
    induction n7 with
    | zero => intro x2_7 B7 ls hl; exact J.nil_
    | succ n7 ih7 =>
      intro x2_7 B7 ls hl
      refine J.eq (jloop_s _ _ _) ?_
      dsimp only [X1_freeIn_h7]
      refine J.pu (fun _ _ _ _ k => lv_iload_n X.1.1 X.1.2.1 dX1_freeIn_7 rfl (lv_at hl 1 rfl) k) ?_
      refine J.pu (fun _ _ _ _ k => lv_sipush (v := 500) X.1.1 X.1.2.1 dX1_freeIn_8 (by decide) k) ?_
      refine J.br (fun _ _ _ _ ka kb => lv_icmp_gt (tgt := 41) X.1.1 X.1.2.1 dX1_freeIn_11 (by decide) ka kb) (fun c11 => ?_) (fun c11 => ?_)
      · refine J.pu (fun _ _ _ _ k => lv_iconst (v := (-1)) X.1.1 X.1.2.1 dX1_freeIn_41 (by decide) k) ?_
        exact J.iret (vr := fun t : Int32 × jH => jrI t.1) (fin := Prod.snd) (t := t) X hr (by rfl) (by rfl) dX1_freeIn_42
      · refine J.pu (fun _ _ _ _ k => W.rload_n X.1.1 X.1.2.1 dX1_freeIn_14 rfl (lv_at hl 0 rfl) k) ?_
        refine J.getRN (k := 5) (ci := 1) X in_X2 (show jCl[1]? = some (RX2, TX2, 9) from rfl) (by decide) jnf11 (fun _ h => h) dX1_freeIn_15 (fun v15 h15 => ?_)
        refine J.pu (fun _ _ _ _ k => W.rload_n X.1.1 X.1.2.1 dX1_freeIn_18 rfl (lv_at hl 0 rfl) k) ?_
        refine J.getIN (k := 1) (ci := 1) X in_X2 (show jCl[1]? = some (RX2, TX2, 9) from rfl) (by decide) jnf3 (fun _ h => h) dX1_freeIn_19 (fun v19 h19 => ?_)
        refine J.bind (fun o22 g22 => ?_)
        refine J.bind (fun v22 h22 => ?_)
        refine J.cV (q := (RX3, TX3, 1)) (ci := 2) (As := [.int v19]) (rest := []) (s2 := [.int v22]) X ⟨rfl, rfl⟩ (ct_X3_isFree l G n B7 o22 v19) (jrd_of h22) (fun _ _ => cwV 1 X.1.2.2.2.2 (lw_V q2173 q2000 q2001 q159 q2002) rfl rfl rfl (by decide +kernel) ⟨(Nat.le_of_ble_eq_true rfl), (Nat.le_of_ble_eq_true rfl)⟩) g22 rfl rfl hl.1 rfl rfl (Nat.le_of_ble_eq_true rfl) dX1_freeIn_22 ?_
        refine J.br (fun _ _ _ _ ka kb => lv_if_eq (tgt := 30) X.1.1 X.1.2.1 dX1_freeIn_25 (by decide) ka kb) (fun c25 => ?_) (fun c25 => ?_)
        · refine J.pu (fun _ _ _ _ k => W.rload_n X.1.1 X.1.2.1 dX1_freeIn_30 rfl (lv_at hl 0 rfl) k) ?_
          refine J.bind (fun o31 g31 => ?_)
          refine J.bd' (fun v31 S31 h31 => ?_)
          refine J.cV (q := (RX2, TX2, 9)) (ci := 1) (As := []) (rest := []) (s2 := [.int v31]) X ⟨rfl, rfl⟩ (ct_X2_ticks l G n B7 o31) h31 (fun _ _ => cwV 0 X.1.2.2.2.2 (lw_V q2168 q2057 q2058 q139 q2059) rfl rfl rfl (by decide +kernel) ⟨(Nat.le_of_ble_eq_true rfl), (Nat.le_of_ble_eq_true rfl)⟩) g31 rfl rfl hl.1 rfl rfl (Nat.le_of_ble_eq_true rfl) dX1_freeIn_31 ?_
          refine J.istore_n (i := 3) (lv' := [(3, .int v31), (1, va_rf x1_7), (2, .int x2_7)]) X.1.1 X.1.2.1 dX1_freeIn_34 rfl hl (by decide) (by first | rfl | simp [va_rf_cat, jcI, jcA, jcJ, jcD, jcF]) (fun ls hl => ?_)
          refine J.iinc (k := 2) (lv' := [(2, .int (x2_7 + 1)), (3, .int v31), (1, va_rf x1_7)]) (w := (x2_7 + 1)) X.1.1 X.1.2.1 dX1_freeIn_35 hl rfl rfl (by decide) (by first | rfl | simp [va_rf_cat, jcI, jcA, jcJ, jcD, jcF]) (fun ls hl => ?_)
          refine J.pu (fun _ _ _ _ k => lv_goto (tgt := 7) X.1.1 X.1.2.1 dX1_freeIn_38 (by decide) k) ?_
          exact ih7 (x2_7 + 1) S31 ls (lv_sub hl [2, 0] rfl)
        · refine J.pu (fun _ _ _ _ k => lv_iload_n X.1.1 X.1.2.1 dX1_freeIn_28 rfl (lv_at hl 1 rfl) k) ?_
          exact J.iret (vr := fun t : Int32 × jH => jrI t.1) (fin := Prod.snd) (t := t) X hr (by rfl) (by rfl) dX1_freeIn_29
  unfold X1_freeIn_b
  refine J.pu (fun _ _ _ _ k => lv_aload_n X.1.1 X.1.2.1 dX1_freeIn_0 rfl (lv_at hl 0 rfl) k) ?_
  refine J.bind (fun o1 g1 => ?_)
  refine J.bd' (fun v1 S1 h1 => ?_)
  refine J.cV (q := (RX1, TX1, 9)) (ci := 0) (As := []) (rest := []) (s2 := [va_rf v1]) X ⟨rfl, rfl⟩ (ct_X1_think l G n σ o1) h1 (fun _ _ => cwV 0 X.1.2.2.2.2 (lw_V q2162 q2164 qs39 q138 q2165) rfl rfl rfl (by decide +kernel) ⟨(Nat.le_of_ble_eq_true rfl), (Nat.le_of_ble_eq_true rfl)⟩) g1 rfl rfl hl.1 rfl rfl (Nat.le_of_ble_eq_true rfl) dX1_freeIn_1 ?_
  refine J.astore_n (r := v1) (i := 1) (lv' := [(1, va_rf v1), (0, .ref this)]) X.1.1 X.1.2.1 dX1_freeIn_4 rfl hl (by decide) (by first | rfl | simp [va_rf_cat, jcI, jcA, jcJ, jcD, jcF]) (fun ls hl => ?_)
  refine J.pu (fun _ _ _ _ k => lv_iconst (v := 0) X.1.1 X.1.2.1 dX1_freeIn_5 (by decide) k) ?_
  refine J.istore_n (i := 2) (lv' := [(2, .int 0), (1, va_rf v1), (0, .ref this)]) X.1.1 X.1.2.1 dX1_freeIn_6 rfl hl (by decide) (by first | rfl | simp [va_rf_cat, jcI, jcA, jcJ, jcD, jcF]) (fun ls hl => ?_)
  exact L7 v1 n 0 S1 ls (lv_sub hl [1, 0] rfl)
noncomputable def X1_leavesIn_h14 (G : jG) (n : Nat) (this : Nat) (a1 : Int32) (x3_14 : Option Nat) (rec14 : Int32 × jH → Option (jTh Int32 × jH)) (q14 : Int32 × jH) : Option (jTh Int32 × jH) :=
  let x4_14 := q14.1; let B14 := q14.2; if 500 < x4_14 then (some (.inl (-1), B14)) else ((rc B14 x3_14 1).bind fun o24 => (X2_parcel G n B14 o24 a1).bind fun v24 => (rc B14 v24 4).bind fun o27 => (X5_isOn G n B14 o27).bind fun v27 => if v27 = 0 then (some (.inl x4_14, B14)) else ((rc B14 x3_14 1).bind fun o37 => bd (X2_ticks G n B14 o37) fun v37 S37 => rec14 ((x4_14 + 1), S37)))
noncomputable def X1_leavesIn_b (G : jG) (n : Nat) (σ : jH) (this : Nat) (a1 : Int32) : Option (jTh Int32 × jH) :=
  (rc σ (some this) 0).bind fun o2 => tb (X1_parcelAt G n σ o2 a1) fun v2 S2 => (rc S2 (some this) 0).bind fun o7 => bd (X1_think G n S2 o7) fun v7 S7 => jloop (X1_leavesIn_h14 G n this a1 v7) n (0, S7)
noncomputable def X1_leavesIn (G : jG) (n : Nat) (σ : jH) (this : Nat) (a1 : Int32) : Option (jTh Int32 × jH) := jck σ (X1_leavesIn_b G n σ this a1)
set_option maxHeartbeats 4000000 in
set_option maxRecDepth 100000 in
theorem ct_X1_leavesIn (l : Launch) (hfl : l.stackTraces = false) (G : jG) (n : Nat) (σ : jH) (this : Nat) (a1 : Int32) : jTt l G yX1_leavesIn (ws_ yX1_leavesIn cX1_leavesIn 6 (some .int)) 26 1335 jrI [.ref this, .int a1] σ (X1_leavesIn G n σ this a1) := by
  refine jTt.wr (lv := [(0, .ref this), (1, .int a1)]) rfl (Nat.le_of_ble_eq_true rfl) rfl ?_
  intro t p e s m args below meth c ls X hr hnm hout hl
  have X : jCx p c cX1_leavesIn 6 s m args RX1 G meth := X
  have L14 : ∀ (x3_14 : Option Nat) (n14 : Nat) (x4_14 : Int32) (B14 : jH) (ls : Array Slot), lv_has ls 6 [(1, .int a1), (3, va_rf x3_14), (4, .int x4_14)] → jGoT l G 26 1335 σ jrI t p e s m args below meth c (jloop (X1_leavesIn_h14 G n this a1 x3_14) n14 (x4_14, B14)) B14 (F0 m 14 ls []) := by
    intro x3_14
    intro n14
    induction n14 with
    | zero => intro x4_14 B14 ls hl; exact J.nil_
    | succ n14 ih14 =>
      intro x4_14 B14 ls hl
      refine J.eq (jloop_s _ _ _) ?_
      dsimp only [X1_leavesIn_h14]
      refine J.pu (fun _ _ _ _ k => lv_iload X.1.1 X.1.2.1 dX1_leavesIn_14 (lv_at hl 2 rfl) k) ?_
      refine J.pu (fun _ _ _ _ k => lv_sipush (v := 500) X.1.1 X.1.2.1 dX1_leavesIn_16 (by decide) k) ?_
      refine J.br (fun _ _ _ _ ka kb => lv_icmp_gt (tgt := 48) X.1.1 X.1.2.1 dX1_leavesIn_19 (by decide) ka kb) (fun c19 => ?_) (fun c19 => ?_)
      · refine J.pu (fun _ _ _ _ k => lv_iconst (v := (-1)) X.1.1 X.1.2.1 dX1_leavesIn_48 (by decide) k) ?_
        exact J.tret (J.iret (vr := fun t : Int32 × jH => jrI t.1) (fin := (Prod.snd : Int32 × jH → jH)) (t := ((-1), B14)) X hr (by rfl) (by rfl) dX1_leavesIn_49)
      · refine J.pu (fun _ _ _ _ k => W.rload_n X.1.1 X.1.2.1 dX1_leavesIn_22 rfl (lv_at hl 1 rfl) k) ?_
        refine J.pu (fun _ _ _ _ k => lv_iload_n X.1.1 X.1.2.1 dX1_leavesIn_23 rfl (lv_at hl 0 rfl) k) ?_
        refine J.bind (fun o24 g24 => ?_)
        refine J.bind (fun v24 h24 => ?_)
        refine J.cV (q := (RX2, TX2, 9)) (ci := 1) (As := [.int a1]) (rest := []) (s2 := [va_rf v24]) X ⟨rfl, rfl⟩ (ct_X2_parcel l G n B14 o24 a1) (jrd_of h24) (fun _ _ => cwV 1 X.1.2.2.2.2 (lw_V q2179 q943 q944 q139 q945) rfl rfl rfl (by decide +kernel) ⟨(Nat.le_of_ble_eq_true rfl), (Nat.le_of_ble_eq_true rfl)⟩) g24 rfl rfl hl.1 rfl rfl (Nat.le_of_ble_eq_true rfl) dX1_leavesIn_24 ?_
        refine J.bind (fun o27 g27 => ?_)
        refine J.bind (fun v27 h27 => ?_)
        refine J.cV (q := (RX5, TX5, 10)) (ci := 4) (As := []) (rest := []) (s2 := [.int v27]) X ⟨rfl, rfl⟩ (ct_X5_isOn l G n B14 o27) (jrd_of h27) (fun _ _ => cwV 0 X.1.2.2.2.2 (lw_V q2395 q1041 q1042 q167 q1043) rfl rfl rfl (by decide +kernel) ⟨(Nat.le_of_ble_eq_true rfl), (Nat.le_of_ble_eq_true rfl)⟩) g27 rfl rfl hl.1 rfl rfl (Nat.le_of_ble_eq_true rfl) dX1_leavesIn_27 ?_
        refine J.br (fun _ _ _ _ ka kb => lv_if_ne (tgt := 36) X.1.1 X.1.2.1 dX1_leavesIn_30 (by decide) kb ka) (fun c30 => ?_) (fun c30 => ?_)
        · refine J.pu (fun _ _ _ _ k => lv_iload X.1.1 X.1.2.1 dX1_leavesIn_33 (lv_at hl 2 rfl) k) ?_
          exact J.tret (J.iret (vr := fun t : Int32 × jH => jrI t.1) (fin := (Prod.snd : Int32 × jH → jH)) (t := (x4_14, B14)) X hr (by rfl) (by rfl) dX1_leavesIn_35)
        · refine J.pu (fun _ _ _ _ k => W.rload_n X.1.1 X.1.2.1 dX1_leavesIn_36 rfl (lv_at hl 1 rfl) k) ?_
          refine J.bind (fun o37 g37 => ?_)
          refine J.bd' (fun v37 S37 h37 => ?_)
          refine J.cV (q := (RX2, TX2, 9)) (ci := 1) (As := []) (rest := []) (s2 := [.int v37]) X ⟨rfl, rfl⟩ (ct_X2_ticks l G n B14 o37) h37 (fun _ _ => cwV 0 X.1.2.2.2.2 (lw_V q2168 q2057 q2058 q139 q2059) rfl rfl rfl (by decide +kernel) ⟨(Nat.le_of_ble_eq_true rfl), (Nat.le_of_ble_eq_true rfl)⟩) g37 rfl rfl hl.1 rfl rfl (Nat.le_of_ble_eq_true rfl) dX1_leavesIn_37 ?_
          refine J.istore (lv' := [(5, .int v37), (1, .int a1), (3, va_rf x3_14), (4, .int x4_14)]) X.1.1 X.1.2.1 dX1_leavesIn_40 hl (by decide) (by first | rfl | simp [va_rf_cat, jcI, jcA, jcJ, jcD, jcF]) (fun ls hl => ?_)
          refine J.iinc (k := 3) (lv' := [(4, .int (x4_14 + 1)), (5, .int v37), (1, .int a1), (3, va_rf x3_14)]) (w := (x4_14 + 1)) X.1.1 X.1.2.1 dX1_leavesIn_42 hl rfl rfl (by decide) (by first | rfl | simp [va_rf_cat, jcI, jcA, jcJ, jcD, jcF]) (fun ls hl => ?_)
          refine J.pu (fun _ _ _ _ k => lv_goto (tgt := 14) X.1.1 X.1.2.1 dX1_leavesIn_45 (by decide) k) ?_
          exact ih14 (x4_14 + 1) S37 ls (lv_sub hl [2, 3, 0] rfl)
  unfold X1_leavesIn_b
  refine J.pu (fun _ _ _ _ k => lv_aload_n X.1.1 X.1.2.1 dX1_leavesIn_0 rfl (lv_at hl 0 rfl) k) ?_
  refine J.pu (fun _ _ _ _ k => lv_iload_n X.1.1 X.1.2.1 dX1_leavesIn_1 rfl (lv_at hl 1 rfl) k) ?_
  refine J.bind (fun o2 g2 => ?_)
  refine J.tV (q := (RX1, TX1, 9)) (ci := 0) (As := [.int a1]) (rest := []) X hout ⟨rfl, rfl⟩ (ct_X1_parcelAt l hfl G n σ o2 a1) (fun _ _ => cwV 1 X.1.2.2.2.2 (lw_V q2454 q2456 qs47 q138 q2457) rfl rfl rfl (by decide +kernel) ⟨(Nat.le_of_ble_eq_true rfl), (Nat.le_of_ble_eq_true rfl)⟩) g2 rfl rfl hl.1 rfl (Nat.le_of_ble_eq_true rfl) dX1_leavesIn_2 (fun v2 S2 h2 => ?_)
  refine J.geq (g2 := F0 m 5 ls [va_rf v2]) rfl ?_
  refine J.astore_n (r := v2) (i := 2) (lv' := [(2, va_rf v2), (0, .ref this), (1, .int a1)]) X.1.1 X.1.2.1 dX1_leavesIn_5 rfl hl (by decide) (by first | rfl | simp [va_rf_cat, jcI, jcA, jcJ, jcD, jcF]) (fun ls hl => ?_)
  refine J.pu (fun _ _ _ _ k => lv_aload_n X.1.1 X.1.2.1 dX1_leavesIn_6 rfl (lv_at hl 1 rfl) k) ?_
  refine J.bind (fun o7 g7 => ?_)
  refine J.bd' (fun v7 S7 h7 => ?_)
  refine J.cV (q := (RX1, TX1, 9)) (ci := 0) (As := []) (rest := []) (s2 := [va_rf v7]) X ⟨rfl, rfl⟩ (ct_X1_think l G n S2 o7) h7 (fun _ _ => cwV 0 X.1.2.2.2.2 (lw_V q2162 q2164 qs39 q138 q2165) rfl rfl rfl (by decide +kernel) ⟨(Nat.le_of_ble_eq_true rfl), (Nat.le_of_ble_eq_true rfl)⟩) g7 rfl rfl hl.1 rfl rfl (Nat.le_of_ble_eq_true rfl) dX1_leavesIn_7 ?_
  refine J.astore_n (r := v7) (i := 3) (lv' := [(3, va_rf v7), (2, va_rf v2), (0, .ref this), (1, .int a1)]) X.1.1 X.1.2.1 dX1_leavesIn_10 rfl hl (by decide) (by first | rfl | simp [va_rf_cat, jcI, jcA, jcJ, jcD, jcF]) (fun ls hl => ?_)
  refine J.pu (fun _ _ _ _ k => lv_iconst (v := 0) X.1.1 X.1.2.1 dX1_leavesIn_11 (by decide) k) ?_
  refine J.istore (lv' := [(4, .int 0), (3, va_rf v7), (2, va_rf v2), (0, .ref this), (1, .int a1)]) X.1.1 X.1.2.1 dX1_leavesIn_12 hl (by decide) (by first | rfl | simp [va_rf_cat, jcI, jcA, jcJ, jcD, jcF]) (fun ls hl => ?_)
  exact L14 v7 n 0 S7 ls (lv_sub hl [4, 1, 0] rfl)
noncomputable def X10_deed_j172 (G : jG) (n : Nat) (this : Nat) (a1 : Option Nat) (x3_172 : Int32) (B172 : jH) : Option (jTh (Option Nat) × jH) :=
  if x3_172 = 0 then ((rc B172 (some this) 7).bind fun o217 => tb (X10_putting G n B172 o217) fun v217 S217 => some (.inl v217, S217)) else if x3_172 = 1 then (bd (nO B172 10 [.int 0, .int 0] 2) fun v223 S223 => bd (nI' S223 0 1) fun v228 S228 => (rc S228 (some this) 7).bind fun o237 => tb (X7_number_X10 G n S228 o237 1 500) fun v237 S237 => (sI G S237 (some v228) 0 0 v237).bind fun S240 => bd (X13_init G n S240 v223 (some v228)) fun v241 S241 => some (.inl (some v223), S241)) else if x3_172 = 2 then (bd (nO B172 11 [.int 0, .int 0] 2) fun v247 S247 => bd (nI' S247 0 1) fun v252 S252 => (rc S252 (some this) 7).bind fun o260 => tb (X7_number_X10 G n S252 o260 0 39) fun v260 S260 => (sI G S260 (some v252) 0 0 v260).bind fun S263 => bd (X14_init G n S263 v247 (some v252)) fun v264 S264 => some (.inl (some v247), S264)) else if x3_172 = 3 then (bd (nO B172 12 [.int 0, .int 0] 2) fun v270 S270 => bd (nI' S270 0 1) fun v275 S275 => (rc S275 (some this) 7).bind fun o280 => tb (X10_chute G n S275 o280) fun v280 S280 => (sI G S280 (some v275) 0 0 v280).bind fun S283 => bd (X15_init G n S283 v270 (some v275)) fun v284 S284 => some (.inl (some v270), S284)) else if x3_172 = 4 then (bd (nO B172 13 [.int 0, .int 0] 2) fun v290 S290 => bd (nI' S290 0 2) fun v295 S295 => (rc S295 (some this) 7).bind fun o300 => tb (X10_chute G n S295 o300) fun v300 S300 => (sI G S300 (some v295) 0 0 v300).bind fun S303 => (sI G S303 (some v295) 0 1 0).bind fun S307 => bd (X16_init G n S307 v290 (some v295)) fun v308 S308 => some (.inl (some v290), S308)) else if x3_172 = 5 then (bd (nO B172 13 [.int 0, .int 0] 2) fun v314 S314 => bd (nI' S314 0 2) fun v319 S319 => (rc S319 (some this) 7).bind fun o324 => tb (X10_chute G n S319 o324) fun v324 S324 => (sI G S324 (some v319) 0 0 v324).bind fun S327 => (sI G S327 (some v319) 0 1 1).bind fun S331 => bd (X16_init G n S331 v314 (some v319)) fun v332 S332 => some (.inl (some v314), S332)) else if x3_172 = 6 then ((rc B172 (some this) 7).bind fun o339 => tb (X10_window G n B172 o339) fun v339 S339 => some (.inl v339, S339)) else bd (nO B172 14 [.int 0, .int 0] 2) fun v345 S345 => bd (nI' S345 0 2) fun v350 S350 => (sI G S350 (some v350) 0 0 (-1)).bind fun S355 => (rc S355 (some this) 7).bind fun o362 => tb (X7_number_X10 G n S355 o362 1 9) fun v362 S362 => (sI G S362 (some v350) 0 1 v362).bind fun S365 => bd (X17_init G n S365 v345 (some v350)) fun v366 S366 => some (.inl (some v345), S366)
noncomputable def X10_deed_b (G : jG) (n : Nat) (σ : jH) (this : Nat) (a1 : Option Nat) : Option (jTh (Option Nat) × jH) :=
  (rc σ a1 21).bind fun o5 => bd (jck σ (stHash G σ o5)) fun v5 S5 => if v5 = (-787751952) then ((rc S5 a1 21).bind fun o163 => (stEq S5 o163 (G.2.2.2 27)).bind fun v163 => if v163 = 0 then (X10_deed_j172 G n this a1 (-1) S5) else (X10_deed_j172 G n this a1 6 S5)) else if v5 = 111375 then ((rc S5 a1 21).bind fun o79 => (stEq S5 o79 (G.2.2.2 21)).bind fun v79 => if v79 = 0 then (X10_deed_j172 G n this a1 (-1) S5) else (X10_deed_j172 G n this a1 0 S5)) else if v5 = 3417674 then ((rc S5 a1 21).bind fun o149 => (stEq S5 o149 (G.2.2.2 26)).bind fun v149 => if v149 = 0 then (X10_deed_j172 G n this a1 (-1) S5) else (X10_deed_j172 G n this a1 5 S5)) else if v5 = 3529652 then ((rc S5 a1 21).bind fun o135 => (stEq S5 o135 (G.2.2.2 25)).bind fun v135 => if v135 = 0 then (X10_deed_j172 G n this a1 (-1) S5) else (X10_deed_j172 G n this a1 4 S5)) else if v5 = 3533120 then ((rc S5 a1 21).bind fun o107 => (stEq S5 o107 (G.2.2.2 23)).bind fun v107 => if v107 = 0 then (X10_deed_j172 G n this a1 (-1) S5) else (X10_deed_j172 G n this a1 2 S5)) else if v5 = 3559837 then ((rc S5 a1 21).bind fun o93 => (stEq S5 o93 (G.2.2.2 22)).bind fun v93 => if v93 = 0 then (X10_deed_j172 G n this a1 (-1) S5) else (X10_deed_j172 G n this a1 1 S5)) else if v5 = 96634189 then ((rc S5 a1 21).bind fun o121 => (stEq S5 o121 (G.2.2.2 24)).bind fun v121 => if v121 = 0 then (X10_deed_j172 G n this a1 (-1) S5) else (X10_deed_j172 G n this a1 3 S5)) else X10_deed_j172 G n this a1 (-1) S5
noncomputable def X10_deed (G : jG) (n : Nat) (σ : jH) (this : Nat) (a1 : Option Nat) : Option (jTh (Option Nat) × jH) := jck σ (X10_deed_b G n σ this a1)
set_option maxHeartbeats 4000000 in
set_option maxRecDepth 100000 in
theorem ct_X10_deed (l : Launch) (hfl : l.stackTraces = false) (G : jG) (n : Nat) (σ : jH) (this : Nat) (a1 : Option Nat) : jTt l G yX10_deed (ws_ yX10_deed cX10_deed 4 (some (.object "SortingLoop$Deed"))) 26 1330 jrR [.ref this, va_rf a1] σ (X10_deed G n σ this a1) := by
  refine jTt.wr (lv := [(0, .ref this), (1, va_rf a1)]) rfl (by simp [lg_sl, va_rf_cat, jcI, jcA, jcJ, jcD, jcF]) (by simp [lv_args, va_rf_cat, jcI, jcA, jcJ, jcD, jcF]) ?_
  intro t p e s m args below meth c ls X hr hnm hout hl
  have X : jCx p c cX10_deed 4 s m args RX10 G meth := X
  have j172 : ∀ (x3_172 : Int32) (B172 : jH) (ls : Array Slot), lv_has ls 4 [(0, .ref this), (3, .int x3_172)] → jGoT l G 26 1330 σ jrR t p e s m args below meth c (X10_deed_j172 G n this a1 x3_172 B172) B172 (F0 m 172 ls []) := by
    intro x3_172 B172 ls hl
    unfold X10_deed_j172
    refine J.pu (fun _ _ _ _ k => lv_iload_n X.1.1 X.1.2.1 dX10_deed_172 rfl (lv_at hl 1 rfl) k) ?_
    refine J.ite (fun c173_0 => ?_) (fun c173_0 => ?_)
    · refine J.pu (fun _ _ _ _ k => lv_tableIn (tgt := 216) (off := 43) X.1.1 X.1.2.1 dX10_deed_173 (by rw [c173_0]; decide) (by rw [c173_0]; decide) (by rw [c173_0]; decide) (by decide) k) ?_
      refine J.pu (fun _ _ _ _ k => lv_aload_n X.1.1 X.1.2.1 dX10_deed_216 rfl (lv_at hl 0 rfl) k) ?_
      refine J.bind (fun o217 g217 => ?_)
      refine J.tV (q := (RX10, TX10, 8)) (ci := 7) (As := []) (rest := []) X hout ⟨rfl, rfl⟩ (ct_X10_putting l hfl G n B172 o217) (fun _ _ => cwV 0 X.1.2.2.2.2 (lw_V q1817 q1819 qs25 q182 q1820) rfl rfl rfl (by decide +kernel) ⟨(Nat.le_of_ble_eq_true rfl), (Nat.le_of_ble_eq_true rfl)⟩) g217 rfl rfl hl.1 rfl (Nat.le_of_ble_eq_true rfl) dX10_deed_217 (fun v217 S217 h217 => ?_)
      refine J.geq (g2 := F0 m 220 ls [va_rf v217]) rfl ?_
      refine J.pu (fun _ _ _ _ k => lv_goto (tgt := 369) X.1.1 X.1.2.1 dX10_deed_220 (by decide) k) ?_
      exact J.tret (J.aret (vr := fun t : (Option Nat) × jH => jrR t.1) (fin := (Prod.snd : (Option Nat) × jH → jH)) (t := (v217, S217)) X hr (Or.inl ⟨_, rfl⟩) (by rfl) (by rfl) dX10_deed_369)
    refine J.ite (fun c173_1 => ?_) (fun c173_1 => ?_)
    · refine J.pu (fun _ _ _ _ k => lv_tableIn (tgt := 223) (off := 50) X.1.1 X.1.2.1 dX10_deed_173 (by rw [c173_1]; decide) (by rw [c173_1]; decide) (by rw [c173_1]; decide) (by decide) k) ?_
      refine J.nO' (fs := [.int 0, .int 0]) X ⟨rfl, rfl⟩ in_X13 (show jCl[10]? = some (RX13, TX13, 2) from rfl) tyX13 tyX13_ok q1844 q1845 q185 rfl dX10_deed_223 (fun v223 S223 h223 => ?_)
      refine J.pu (fun _ _ _ _ k => lv_dup X.1.1 X.1.2.1 dX10_deed_226 rfl k) ?_
      refine J.pu (fun _ _ _ _ k => lv_iconst (v := 1) X.1.1 X.1.2.1 dX10_deed_227 (by decide) k) ?_
      refine J.nI0 X ⟨rfl, rfl⟩ dX10_deed_228 (fun v228 S228 h228 => ?_)
      refine J.pu (fun _ _ _ _ k => lv_dup X.1.1 X.1.2.1 dX10_deed_230 rfl k) ?_
      refine J.pu (fun _ _ _ _ k => lv_iconst (v := 0) X.1.1 X.1.2.1 dX10_deed_231 (by decide) k) ?_
      refine J.pu (fun _ _ _ _ k => lv_aload_n X.1.1 X.1.2.1 dX10_deed_232 rfl (lv_at hl 0 rfl) k) ?_
      refine J.pu (fun _ _ _ _ k => lv_iconst (v := 1) X.1.1 X.1.2.1 dX10_deed_233 (by decide) k) ?_
      refine J.pu (fun _ _ _ _ k => lv_sipush (v := 500) X.1.1 X.1.2.1 dX10_deed_234 (by decide) k) ?_
      refine J.bind (fun o237 g237 => ?_)
      refine J.tU (q := (RX10, TX10, 8)) (ci := 7) (As := [.int 1, .int 500]) (rest := [.int 0, .ref v228, .ref v228, .ref v223, .ref v223]) X hout ⟨rfl, rfl⟩ (ct_X7_number_X10 l hfl G n S228 o237 1 500) (fun _ _ => va_cwU 2 X.1.2.2.2.2 (lw_U q1825 q1826 q1827 q1607 q175 q1608) rfl rfl rfl rfl (by decide +kernel) ⟨(Nat.le_of_ble_eq_true rfl), (Nat.le_of_ble_eq_true rfl)⟩) g237 rfl rfl hl.1 rfl (Nat.le_of_ble_eq_true rfl) dX10_deed_237 (fun v237 S237 h237 => ?_)
      refine J.geq (g2 := F0 m 240 ls [.int v237, .int 0, .ref v228, .ref v228, .ref v223, .ref v223]) rfl ?_
      refine J.sI0 X dX10_deed_240 (fun S240 h240 => ?_)
      refine J.bd' (fun v241 S241 h241 => ?_)
      refine J.cI (a := v223) (As := [.ref v228]) (rest := [.ref v223]) (s2 := [.ref v223]) X ⟨rfl, rfl⟩ (ct_X13_init l G n S240 v223 (some v228)) h241 (fun _ _ => jcwI 1 X.1.2.2.2.2 q1846 q1847 q185 q1848 rfl rfl rfl (by decide +kernel) ⟨(Nat.le_of_ble_eq_true rfl), (Nat.le_of_ble_eq_true rfl)⟩) rfl hl.1 rfl rfl (Nat.le_of_ble_eq_true rfl) dX10_deed_241 ?_
      refine J.pu (fun _ _ _ _ k => lv_goto (tgt := 369) X.1.1 X.1.2.1 dX10_deed_244 (by decide) k) ?_
      exact J.tret (J.aret (vr := fun t : (Option Nat) × jH => jrR t.1) (fin := (Prod.snd : (Option Nat) × jH → jH)) (t := ((some v223), S241)) X hr (Or.inl ⟨_, rfl⟩) (by rfl) (by rfl) dX10_deed_369)
    refine J.ite (fun c173_2 => ?_) (fun c173_2 => ?_)
    · refine J.pu (fun _ _ _ _ k => lv_tableIn (tgt := 247) (off := 74) X.1.1 X.1.2.1 dX10_deed_173 (by rw [c173_2]; decide) (by rw [c173_2]; decide) (by rw [c173_2]; decide) (by decide) k) ?_
      refine J.nO' (fs := [.int 0, .int 0]) X ⟨rfl, rfl⟩ in_X14 (show jCl[11]? = some (RX14, TX14, 2) from rfl) tyX14 tyX14_ok q1853 q1854 q186 rfl dX10_deed_247 (fun v247 S247 h247 => ?_)
      refine J.pu (fun _ _ _ _ k => lv_dup X.1.1 X.1.2.1 dX10_deed_250 rfl k) ?_
      refine J.pu (fun _ _ _ _ k => lv_iconst (v := 1) X.1.1 X.1.2.1 dX10_deed_251 (by decide) k) ?_
      refine J.nI0 X ⟨rfl, rfl⟩ dX10_deed_252 (fun v252 S252 h252 => ?_)
      refine J.pu (fun _ _ _ _ k => lv_dup X.1.1 X.1.2.1 dX10_deed_254 rfl k) ?_
      refine J.pu (fun _ _ _ _ k => lv_iconst (v := 0) X.1.1 X.1.2.1 dX10_deed_255 (by decide) k) ?_
      refine J.pu (fun _ _ _ _ k => lv_aload_n X.1.1 X.1.2.1 dX10_deed_256 rfl (lv_at hl 0 rfl) k) ?_
      refine J.pu (fun _ _ _ _ k => lv_iconst (v := 0) X.1.1 X.1.2.1 dX10_deed_257 (by decide) k) ?_
      refine J.pu (fun _ _ _ _ k => lv_bipush (v := 39) X.1.1 X.1.2.1 dX10_deed_258 (by decide) k) ?_
      refine J.bind (fun o260 g260 => ?_)
      refine J.tU (q := (RX10, TX10, 8)) (ci := 7) (As := [.int 0, .int 39]) (rest := [.int 0, .ref v252, .ref v252, .ref v247, .ref v247]) X hout ⟨rfl, rfl⟩ (ct_X7_number_X10 l hfl G n S252 o260 0 39) (fun _ _ => va_cwU 2 X.1.2.2.2.2 (lw_U q1825 q1826 q1827 q1607 q175 q1608) rfl rfl rfl rfl (by decide +kernel) ⟨(Nat.le_of_ble_eq_true rfl), (Nat.le_of_ble_eq_true rfl)⟩) g260 rfl rfl hl.1 rfl (Nat.le_of_ble_eq_true rfl) dX10_deed_260 (fun v260 S260 h260 => ?_)
      refine J.geq (g2 := F0 m 263 ls [.int v260, .int 0, .ref v252, .ref v252, .ref v247, .ref v247]) rfl ?_
      refine J.sI0 X dX10_deed_263 (fun S263 h263 => ?_)
      refine J.bd' (fun v264 S264 h264 => ?_)
      refine J.cI (a := v247) (As := [.ref v252]) (rest := [.ref v247]) (s2 := [.ref v247]) X ⟨rfl, rfl⟩ (ct_X14_init l G n S263 v247 (some v252)) h264 (fun _ _ => jcwI 1 X.1.2.2.2.2 q1855 q1856 q186 q1857 rfl rfl rfl (by decide +kernel) ⟨(Nat.le_of_ble_eq_true rfl), (Nat.le_of_ble_eq_true rfl)⟩) rfl hl.1 rfl rfl (Nat.le_of_ble_eq_true rfl) dX10_deed_264 ?_
      refine J.pu (fun _ _ _ _ k => lv_goto (tgt := 369) X.1.1 X.1.2.1 dX10_deed_267 (by decide) k) ?_
      exact J.tret (J.aret (vr := fun t : (Option Nat) × jH => jrR t.1) (fin := (Prod.snd : (Option Nat) × jH → jH)) (t := ((some v247), S264)) X hr (Or.inl ⟨_, rfl⟩) (by rfl) (by rfl) dX10_deed_369)
    refine J.ite (fun c173_3 => ?_) (fun c173_3 => ?_)
    · refine J.pu (fun _ _ _ _ k => lv_tableIn (tgt := 270) (off := 97) X.1.1 X.1.2.1 dX10_deed_173 (by rw [c173_3]; decide) (by rw [c173_3]; decide) (by rw [c173_3]; decide) (by decide) k) ?_
      refine J.nO' (fs := [.int 0, .int 0]) X ⟨rfl, rfl⟩ in_X15 (show jCl[12]? = some (RX15, TX15, 2) from rfl) tyX15 tyX15_ok q1862 q1863 q187 rfl dX10_deed_270 (fun v270 S270 h270 => ?_)
      refine J.pu (fun _ _ _ _ k => lv_dup X.1.1 X.1.2.1 dX10_deed_273 rfl k) ?_
      refine J.pu (fun _ _ _ _ k => lv_iconst (v := 1) X.1.1 X.1.2.1 dX10_deed_274 (by decide) k) ?_
      refine J.nI0 X ⟨rfl, rfl⟩ dX10_deed_275 (fun v275 S275 h275 => ?_)
      refine J.pu (fun _ _ _ _ k => lv_dup X.1.1 X.1.2.1 dX10_deed_277 rfl k) ?_
      refine J.pu (fun _ _ _ _ k => lv_iconst (v := 0) X.1.1 X.1.2.1 dX10_deed_278 (by decide) k) ?_
      refine J.pu (fun _ _ _ _ k => lv_aload_n X.1.1 X.1.2.1 dX10_deed_279 rfl (lv_at hl 0 rfl) k) ?_
      refine J.bind (fun o280 g280 => ?_)
      refine J.tV (q := (RX10, TX10, 8)) (ci := 7) (As := []) (rest := [.int 0, .ref v275, .ref v275, .ref v270, .ref v270]) X hout ⟨rfl, rfl⟩ (ct_X10_chute l hfl G n S275 o280) (fun _ _ => cwV 0 X.1.2.2.2.2 (lw_V q1821 q1823 qs26 q182 q1824) rfl rfl rfl (by decide +kernel) ⟨(Nat.le_of_ble_eq_true rfl), (Nat.le_of_ble_eq_true rfl)⟩) g280 rfl rfl hl.1 rfl (Nat.le_of_ble_eq_true rfl) dX10_deed_280 (fun v280 S280 h280 => ?_)
      refine J.geq (g2 := F0 m 283 ls [.int v280, .int 0, .ref v275, .ref v275, .ref v270, .ref v270]) rfl ?_
      refine J.sI0 X dX10_deed_283 (fun S283 h283 => ?_)
      refine J.bd' (fun v284 S284 h284 => ?_)
      refine J.cI (a := v270) (As := [.ref v275]) (rest := [.ref v270]) (s2 := [.ref v270]) X ⟨rfl, rfl⟩ (ct_X15_init l G n S283 v270 (some v275)) h284 (fun _ _ => jcwI 1 X.1.2.2.2.2 q1864 q1865 q187 q1866 rfl rfl rfl (by decide +kernel) ⟨(Nat.le_of_ble_eq_true rfl), (Nat.le_of_ble_eq_true rfl)⟩) rfl hl.1 rfl rfl (Nat.le_of_ble_eq_true rfl) dX10_deed_284 ?_
      refine J.pu (fun _ _ _ _ k => lv_goto (tgt := 369) X.1.1 X.1.2.1 dX10_deed_287 (by decide) k) ?_
      exact J.tret (J.aret (vr := fun t : (Option Nat) × jH => jrR t.1) (fin := (Prod.snd : (Option Nat) × jH → jH)) (t := ((some v270), S284)) X hr (Or.inl ⟨_, rfl⟩) (by rfl) (by rfl) dX10_deed_369)
    refine J.ite (fun c173_4 => ?_) (fun c173_4 => ?_)
    · refine J.pu (fun _ _ _ _ k => lv_tableIn (tgt := 290) (off := 117) X.1.1 X.1.2.1 dX10_deed_173 (by rw [c173_4]; decide) (by rw [c173_4]; decide) (by rw [c173_4]; decide) (by decide) k) ?_
      refine J.nO' (fs := [.int 0, .int 0]) X ⟨rfl, rfl⟩ in_X16 (show jCl[13]? = some (RX16, TX16, 2) from rfl) tyX16 tyX16_ok q1871 q1872 q188 rfl dX10_deed_290 (fun v290 S290 h290 => ?_)
      refine J.pu (fun _ _ _ _ k => lv_dup X.1.1 X.1.2.1 dX10_deed_293 rfl k) ?_
      refine J.pu (fun _ _ _ _ k => lv_iconst (v := 2) X.1.1 X.1.2.1 dX10_deed_294 (by decide) k) ?_
      refine J.nI0 X ⟨rfl, rfl⟩ dX10_deed_295 (fun v295 S295 h295 => ?_)
      refine J.pu (fun _ _ _ _ k => lv_dup X.1.1 X.1.2.1 dX10_deed_297 rfl k) ?_
      refine J.pu (fun _ _ _ _ k => lv_iconst (v := 0) X.1.1 X.1.2.1 dX10_deed_298 (by decide) k) ?_
      refine J.pu (fun _ _ _ _ k => lv_aload_n X.1.1 X.1.2.1 dX10_deed_299 rfl (lv_at hl 0 rfl) k) ?_
      refine J.bind (fun o300 g300 => ?_)
      refine J.tV (q := (RX10, TX10, 8)) (ci := 7) (As := []) (rest := [.int 0, .ref v295, .ref v295, .ref v290, .ref v290]) X hout ⟨rfl, rfl⟩ (ct_X10_chute l hfl G n S295 o300) (fun _ _ => cwV 0 X.1.2.2.2.2 (lw_V q1821 q1823 qs26 q182 q1824) rfl rfl rfl (by decide +kernel) ⟨(Nat.le_of_ble_eq_true rfl), (Nat.le_of_ble_eq_true rfl)⟩) g300 rfl rfl hl.1 rfl (Nat.le_of_ble_eq_true rfl) dX10_deed_300 (fun v300 S300 h300 => ?_)
      refine J.geq (g2 := F0 m 303 ls [.int v300, .int 0, .ref v295, .ref v295, .ref v290, .ref v290]) rfl ?_
      refine J.sI0 X dX10_deed_303 (fun S303 h303 => ?_)
      refine J.pu (fun _ _ _ _ k => lv_dup X.1.1 X.1.2.1 dX10_deed_304 rfl k) ?_
      refine J.pu (fun _ _ _ _ k => lv_iconst (v := 1) X.1.1 X.1.2.1 dX10_deed_305 (by decide) k) ?_
      refine J.pu (fun _ _ _ _ k => lv_iconst (v := 0) X.1.1 X.1.2.1 dX10_deed_306 (by decide) k) ?_
      refine J.sI0 X dX10_deed_307 (fun S307 h307 => ?_)
      refine J.bd' (fun v308 S308 h308 => ?_)
      refine J.cI (a := v290) (As := [.ref v295]) (rest := [.ref v290]) (s2 := [.ref v290]) X ⟨rfl, rfl⟩ (ct_X16_init l G n S307 v290 (some v295)) h308 (fun _ _ => jcwI 1 X.1.2.2.2.2 q1873 q1874 q188 q1875 rfl rfl rfl (by decide +kernel) ⟨(Nat.le_of_ble_eq_true rfl), (Nat.le_of_ble_eq_true rfl)⟩) rfl hl.1 rfl rfl (Nat.le_of_ble_eq_true rfl) dX10_deed_308 ?_
      refine J.pu (fun _ _ _ _ k => lv_goto (tgt := 369) X.1.1 X.1.2.1 dX10_deed_311 (by decide) k) ?_
      exact J.tret (J.aret (vr := fun t : (Option Nat) × jH => jrR t.1) (fin := (Prod.snd : (Option Nat) × jH → jH)) (t := ((some v290), S308)) X hr (Or.inl ⟨_, rfl⟩) (by rfl) (by rfl) dX10_deed_369)
    refine J.ite (fun c173_5 => ?_) (fun c173_5 => ?_)
    · refine J.pu (fun _ _ _ _ k => lv_tableIn (tgt := 314) (off := 141) X.1.1 X.1.2.1 dX10_deed_173 (by rw [c173_5]; decide) (by rw [c173_5]; decide) (by rw [c173_5]; decide) (by decide) k) ?_
      refine J.nO' (fs := [.int 0, .int 0]) X ⟨rfl, rfl⟩ in_X16 (show jCl[13]? = some (RX16, TX16, 2) from rfl) tyX16 tyX16_ok q1871 q1872 q188 rfl dX10_deed_314 (fun v314 S314 h314 => ?_)
      refine J.pu (fun _ _ _ _ k => lv_dup X.1.1 X.1.2.1 dX10_deed_317 rfl k) ?_
      refine J.pu (fun _ _ _ _ k => lv_iconst (v := 2) X.1.1 X.1.2.1 dX10_deed_318 (by decide) k) ?_
      refine J.nI0 X ⟨rfl, rfl⟩ dX10_deed_319 (fun v319 S319 h319 => ?_)
      refine J.pu (fun _ _ _ _ k => lv_dup X.1.1 X.1.2.1 dX10_deed_321 rfl k) ?_
      refine J.pu (fun _ _ _ _ k => lv_iconst (v := 0) X.1.1 X.1.2.1 dX10_deed_322 (by decide) k) ?_
      refine J.pu (fun _ _ _ _ k => lv_aload_n X.1.1 X.1.2.1 dX10_deed_323 rfl (lv_at hl 0 rfl) k) ?_
      refine J.bind (fun o324 g324 => ?_)
      refine J.tV (q := (RX10, TX10, 8)) (ci := 7) (As := []) (rest := [.int 0, .ref v319, .ref v319, .ref v314, .ref v314]) X hout ⟨rfl, rfl⟩ (ct_X10_chute l hfl G n S319 o324) (fun _ _ => cwV 0 X.1.2.2.2.2 (lw_V q1821 q1823 qs26 q182 q1824) rfl rfl rfl (by decide +kernel) ⟨(Nat.le_of_ble_eq_true rfl), (Nat.le_of_ble_eq_true rfl)⟩) g324 rfl rfl hl.1 rfl (Nat.le_of_ble_eq_true rfl) dX10_deed_324 (fun v324 S324 h324 => ?_)
      refine J.geq (g2 := F0 m 327 ls [.int v324, .int 0, .ref v319, .ref v319, .ref v314, .ref v314]) rfl ?_
      refine J.sI0 X dX10_deed_327 (fun S327 h327 => ?_)
      refine J.pu (fun _ _ _ _ k => lv_dup X.1.1 X.1.2.1 dX10_deed_328 rfl k) ?_
      refine J.pu (fun _ _ _ _ k => lv_iconst (v := 1) X.1.1 X.1.2.1 dX10_deed_329 (by decide) k) ?_
      refine J.pu (fun _ _ _ _ k => lv_iconst (v := 1) X.1.1 X.1.2.1 dX10_deed_330 (by decide) k) ?_
      refine J.sI0 X dX10_deed_331 (fun S331 h331 => ?_)
      refine J.bd' (fun v332 S332 h332 => ?_)
      refine J.cI (a := v314) (As := [.ref v319]) (rest := [.ref v314]) (s2 := [.ref v314]) X ⟨rfl, rfl⟩ (ct_X16_init l G n S331 v314 (some v319)) h332 (fun _ _ => jcwI 1 X.1.2.2.2.2 q1873 q1874 q188 q1875 rfl rfl rfl (by decide +kernel) ⟨(Nat.le_of_ble_eq_true rfl), (Nat.le_of_ble_eq_true rfl)⟩) rfl hl.1 rfl rfl (Nat.le_of_ble_eq_true rfl) dX10_deed_332 ?_
      refine J.pu (fun _ _ _ _ k => lv_goto (tgt := 369) X.1.1 X.1.2.1 dX10_deed_335 (by decide) k) ?_
      exact J.tret (J.aret (vr := fun t : (Option Nat) × jH => jrR t.1) (fin := (Prod.snd : (Option Nat) × jH → jH)) (t := ((some v314), S332)) X hr (Or.inl ⟨_, rfl⟩) (by rfl) (by rfl) dX10_deed_369)
    refine J.ite (fun c173_6 => ?_) (fun c173_6 => ?_)
    · refine J.pu (fun _ _ _ _ k => lv_tableIn (tgt := 338) (off := 165) X.1.1 X.1.2.1 dX10_deed_173 (by rw [c173_6]; decide) (by rw [c173_6]; decide) (by rw [c173_6]; decide) (by decide) k) ?_
      refine J.pu (fun _ _ _ _ k => lv_aload_n X.1.1 X.1.2.1 dX10_deed_338 rfl (lv_at hl 0 rfl) k) ?_
      refine J.bind (fun o339 g339 => ?_)
      refine J.tV (q := (RX10, TX10, 8)) (ci := 7) (As := []) (rest := []) X hout ⟨rfl, rfl⟩ (ct_X10_window l hfl G n B172 o339) (fun _ _ => cwV 0 X.1.2.2.2.2 (lw_V q1880 q1882 qs27 q182 q1883) rfl rfl rfl (by decide +kernel) ⟨(Nat.le_of_ble_eq_true rfl), (Nat.le_of_ble_eq_true rfl)⟩) g339 rfl rfl hl.1 rfl (Nat.le_of_ble_eq_true rfl) dX10_deed_339 (fun v339 S339 h339 => ?_)
      refine J.geq (g2 := F0 m 342 ls [va_rf v339]) rfl ?_
      refine J.pu (fun _ _ _ _ k => lv_goto (tgt := 369) X.1.1 X.1.2.1 dX10_deed_342 (by decide) k) ?_
      exact J.tret (J.aret (vr := fun t : (Option Nat) × jH => jrR t.1) (fin := (Prod.snd : (Option Nat) × jH → jH)) (t := (v339, S339)) X hr (Or.inl ⟨_, rfl⟩) (by rfl) (by rfl) dX10_deed_369)
    by_cases b173 : x3_172.toInt < 0 ∨ 6 < x3_172.toInt
    · refine J.pu (fun _ _ _ _ k => lv_tableOut (tgt := 345) X.1.1 X.1.2.1 dX10_deed_173 b173 (by decide) k) ?_
      refine J.nO' (fs := [.int 0, .int 0]) X ⟨rfl, rfl⟩ in_X17 (show jCl[14]? = some (RX17, TX17, 2) from rfl) tyX17 tyX17_ok q1884 q1885 q189 rfl dX10_deed_345 (fun v345 S345 h345 => ?_)
      refine J.pu (fun _ _ _ _ k => lv_dup X.1.1 X.1.2.1 dX10_deed_348 rfl k) ?_
      refine J.pu (fun _ _ _ _ k => lv_iconst (v := 2) X.1.1 X.1.2.1 dX10_deed_349 (by decide) k) ?_
      refine J.nI0 X ⟨rfl, rfl⟩ dX10_deed_350 (fun v350 S350 h350 => ?_)
      refine J.pu (fun _ _ _ _ k => lv_dup X.1.1 X.1.2.1 dX10_deed_352 rfl k) ?_
      refine J.pu (fun _ _ _ _ k => lv_iconst (v := 0) X.1.1 X.1.2.1 dX10_deed_353 (by decide) k) ?_
      refine J.pu (fun _ _ _ _ k => lv_iconst (v := (-1)) X.1.1 X.1.2.1 dX10_deed_354 (by decide) k) ?_
      refine J.sI0 X dX10_deed_355 (fun S355 h355 => ?_)
      refine J.pu (fun _ _ _ _ k => lv_dup X.1.1 X.1.2.1 dX10_deed_356 rfl k) ?_
      refine J.pu (fun _ _ _ _ k => lv_iconst (v := 1) X.1.1 X.1.2.1 dX10_deed_357 (by decide) k) ?_
      refine J.pu (fun _ _ _ _ k => lv_aload_n X.1.1 X.1.2.1 dX10_deed_358 rfl (lv_at hl 0 rfl) k) ?_
      refine J.pu (fun _ _ _ _ k => lv_iconst (v := 1) X.1.1 X.1.2.1 dX10_deed_359 (by decide) k) ?_
      refine J.pu (fun _ _ _ _ k => lv_bipush (v := 9) X.1.1 X.1.2.1 dX10_deed_360 (by decide) k) ?_
      refine J.bind (fun o362 g362 => ?_)
      refine J.tU (q := (RX10, TX10, 8)) (ci := 7) (As := [.int 1, .int 9]) (rest := [.int 1, .ref v350, .ref v350, .ref v345, .ref v345]) X hout ⟨rfl, rfl⟩ (ct_X7_number_X10 l hfl G n S355 o362 1 9) (fun _ _ => va_cwU 2 X.1.2.2.2.2 (lw_U q1825 q1826 q1827 q1607 q175 q1608) rfl rfl rfl rfl (by decide +kernel) ⟨(Nat.le_of_ble_eq_true rfl), (Nat.le_of_ble_eq_true rfl)⟩) g362 rfl rfl hl.1 rfl (Nat.le_of_ble_eq_true rfl) dX10_deed_362 (fun v362 S362 h362 => ?_)
      refine J.geq (g2 := F0 m 365 ls [.int v362, .int 1, .ref v350, .ref v350, .ref v345, .ref v345]) rfl ?_
      refine J.sI0 X dX10_deed_365 (fun S365 h365 => ?_)
      refine J.bd' (fun v366 S366 h366 => ?_)
      refine J.cI (a := v345) (As := [.ref v350]) (rest := [.ref v345]) (s2 := [.ref v345]) X ⟨rfl, rfl⟩ (ct_X17_init l G n S365 v345 (some v350)) h366 (fun _ _ => jcwI 1 X.1.2.2.2.2 q1886 q1887 q189 q1888 rfl rfl rfl (by decide +kernel) ⟨(Nat.le_of_ble_eq_true rfl), (Nat.le_of_ble_eq_true rfl)⟩) rfl hl.1 rfl rfl (Nat.le_of_ble_eq_true rfl) dX10_deed_366 ?_
      exact J.tret (J.aret (vr := fun t : (Option Nat) × jH => jrR t.1) (fin := (Prod.snd : (Option Nat) × jH → jH)) (t := ((some v345), S366)) X hr (Or.inl ⟨_, rfl⟩) (by rfl) (by rfl) dX10_deed_369)
    · exfalso; have := lv_neT c173_0 (a := 0) rfl; have := lv_neT c173_1 (a := 1) rfl; have := lv_neT c173_2 (a := 2) rfl; have := lv_neT c173_3 (a := 3) rfl; have := lv_neT c173_4 (a := 4) rfl; have := lv_neT c173_5 (a := 5) rfl; have := lv_neT c173_6 (a := 6) rfl; omega
  unfold X10_deed_b
  refine J.pu (fun _ _ _ _ k => W.rload_n X.1.1 X.1.2.1 dX10_deed_0 rfl (lv_at hl 1 rfl) k) ?_
  refine J.astore_n (r := a1) (i := 2) (lv' := [(2, va_rf a1), (0, .ref this), (1, va_rf a1)]) X.1.1 X.1.2.1 dX10_deed_1 rfl hl (by decide) (by first | rfl | simp [va_rf_cat, jcI, jcA, jcJ, jcD, jcF]) (fun ls hl => ?_)
  refine J.pu (fun _ _ _ _ k => lv_iconst (v := (-1)) X.1.1 X.1.2.1 dX10_deed_2 (by decide) k) ?_
  refine J.istore_n (i := 3) (lv' := [(3, .int (-1)), (2, va_rf a1), (0, .ref this), (1, va_rf a1)]) X.1.1 X.1.2.1 dX10_deed_3 rfl hl (by decide) (by first | rfl | simp [va_rf_cat, jcI, jcA, jcJ, jcD, jcF]) (fun ls hl => ?_)
  refine J.pu (fun _ _ _ _ k => W.rload_n X.1.1 X.1.2.1 dX10_deed_4 rfl (lv_at hl 1 rfl) k) ?_
  refine J.bind (fun o5 g5 => ?_)
  refine J.bd' (fun v5 S5 h5 => ?_)
  refine J.cV (q := (RJ9, TJ9, 4)) (ci := 21) (As := []) (rest := []) (s2 := [.int v5]) X ⟨rfl, rfl⟩ (ct_J9_hashCode l G σ o5) h5 (fun _ _ => cwV 0 X.1.2.2.2.2 (lw_V q1795 q1635 q1636 q149 q1637) rfl rfl rfl (by decide +kernel) ⟨(Nat.le_of_ble_eq_true rfl), (Nat.le_of_ble_eq_true rfl)⟩) g5 rfl rfl hl.1 rfl rfl (Nat.le_of_ble_eq_true rfl) dX10_deed_5 ?_
  refine J.ite (fun c8_m787751952 => ?_) (fun c8_m787751952 => ?_)
  · refine J.pu (fun _ _ _ _ k => lv_lookup (tgt := 160) (off := 152) X.1.1 X.1.2.1 dX10_deed_8 (by decide +kernel) (by rw [c8_m787751952]; decide +kernel) (by decide) k) ?_
    refine J.pu (fun _ _ _ _ k => W.rload_n X.1.1 X.1.2.1 dX10_deed_160 rfl (lv_at hl 1 rfl) k) ?_
    refine J.pu (fun _ _ _ _ k => W.ldcS (i := 27) X rfl dX10_deed_161 k) ?_
    refine J.bind (fun o163 g163 => ?_)
    refine J.bind (fun v163 h163 => ?_)
    refine J.cV (q := (RJ9, TJ9, 4)) (ci := 21) (As := [va_rf (G.2.2.2 27)]) (rest := []) (s2 := [.int v163]) X ⟨rfl, rfl⟩ (ct_J9_equals l G S5 o163 (G.2.2.2 27)) (jrd_of h163) (fun _ _ => cwV 1 X.1.2.2.2.2 (lw_V q1797 q1558 q1559 q149 q1560) rfl rfl rfl (by decide +kernel) ⟨(Nat.le_of_ble_eq_true rfl), (Nat.le_of_ble_eq_true rfl)⟩) g163 rfl rfl hl.1 rfl rfl (Nat.le_of_ble_eq_true rfl) dX10_deed_163 ?_
    refine J.br (fun _ _ _ _ ka kb => lv_if_eq (tgt := 172) X.1.1 X.1.2.1 dX10_deed_166 (by decide) ka kb) (fun c166 => ?_) (fun c166 => ?_)
    · exact j172 (-1) S5 ls (lv_sub hl [2, 0] rfl)
    · refine J.pu (fun _ _ _ _ k => lv_bipush (v := 6) X.1.1 X.1.2.1 dX10_deed_169 (by decide) k) ?_
      refine J.istore_n (i := 3) (lv' := [(3, .int 6), (2, va_rf a1), (0, .ref this), (1, va_rf a1)]) X.1.1 X.1.2.1 dX10_deed_171 rfl hl (by decide) (by first | rfl | simp [va_rf_cat, jcI, jcA, jcJ, jcD, jcF]) (fun ls hl => ?_)
      exact j172 6 S5 ls (lv_sub hl [2, 0] rfl)
  refine J.ite (fun c8_111375 => ?_) (fun c8_111375 => ?_)
  · refine J.pu (fun _ _ _ _ k => lv_lookup (tgt := 76) (off := 68) X.1.1 X.1.2.1 dX10_deed_8 (by decide +kernel) (by rw [c8_111375]; decide +kernel) (by decide) k) ?_
    refine J.pu (fun _ _ _ _ k => W.rload_n X.1.1 X.1.2.1 dX10_deed_76 rfl (lv_at hl 1 rfl) k) ?_
    refine J.pu (fun _ _ _ _ k => W.ldcS (i := 21) X rfl dX10_deed_77 k) ?_
    refine J.bind (fun o79 g79 => ?_)
    refine J.bind (fun v79 h79 => ?_)
    refine J.cV (q := (RJ9, TJ9, 4)) (ci := 21) (As := [va_rf (G.2.2.2 21)]) (rest := []) (s2 := [.int v79]) X ⟨rfl, rfl⟩ (ct_J9_equals l G S5 o79 (G.2.2.2 21)) (jrd_of h79) (fun _ _ => cwV 1 X.1.2.2.2.2 (lw_V q1797 q1558 q1559 q149 q1560) rfl rfl rfl (by decide +kernel) ⟨(Nat.le_of_ble_eq_true rfl), (Nat.le_of_ble_eq_true rfl)⟩) g79 rfl rfl hl.1 rfl rfl (Nat.le_of_ble_eq_true rfl) dX10_deed_79 ?_
    refine J.br (fun _ _ _ _ ka kb => lv_if_eq (tgt := 172) X.1.1 X.1.2.1 dX10_deed_82 (by decide) ka kb) (fun c82 => ?_) (fun c82 => ?_)
    · exact j172 (-1) S5 ls (lv_sub hl [2, 0] rfl)
    · refine J.pu (fun _ _ _ _ k => lv_iconst (v := 0) X.1.1 X.1.2.1 dX10_deed_85 (by decide) k) ?_
      refine J.istore_n (i := 3) (lv' := [(3, .int 0), (2, va_rf a1), (0, .ref this), (1, va_rf a1)]) X.1.1 X.1.2.1 dX10_deed_86 rfl hl (by decide) (by first | rfl | simp [va_rf_cat, jcI, jcA, jcJ, jcD, jcF]) (fun ls hl => ?_)
      refine J.pu (fun _ _ _ _ k => lv_goto (tgt := 172) X.1.1 X.1.2.1 dX10_deed_87 (by decide) k) ?_
      exact j172 0 S5 ls (lv_sub hl [2, 0] rfl)
  refine J.ite (fun c8_3417674 => ?_) (fun c8_3417674 => ?_)
  · refine J.pu (fun _ _ _ _ k => lv_lookup (tgt := 146) (off := 138) X.1.1 X.1.2.1 dX10_deed_8 (by decide +kernel) (by rw [c8_3417674]; decide +kernel) (by decide) k) ?_
    refine J.pu (fun _ _ _ _ k => W.rload_n X.1.1 X.1.2.1 dX10_deed_146 rfl (lv_at hl 1 rfl) k) ?_
    refine J.pu (fun _ _ _ _ k => W.ldcS (i := 26) X rfl dX10_deed_147 k) ?_
    refine J.bind (fun o149 g149 => ?_)
    refine J.bind (fun v149 h149 => ?_)
    refine J.cV (q := (RJ9, TJ9, 4)) (ci := 21) (As := [va_rf (G.2.2.2 26)]) (rest := []) (s2 := [.int v149]) X ⟨rfl, rfl⟩ (ct_J9_equals l G S5 o149 (G.2.2.2 26)) (jrd_of h149) (fun _ _ => cwV 1 X.1.2.2.2.2 (lw_V q1797 q1558 q1559 q149 q1560) rfl rfl rfl (by decide +kernel) ⟨(Nat.le_of_ble_eq_true rfl), (Nat.le_of_ble_eq_true rfl)⟩) g149 rfl rfl hl.1 rfl rfl (Nat.le_of_ble_eq_true rfl) dX10_deed_149 ?_
    refine J.br (fun _ _ _ _ ka kb => lv_if_eq (tgt := 172) X.1.1 X.1.2.1 dX10_deed_152 (by decide) ka kb) (fun c152 => ?_) (fun c152 => ?_)
    · exact j172 (-1) S5 ls (lv_sub hl [2, 0] rfl)
    · refine J.pu (fun _ _ _ _ k => lv_iconst (v := 5) X.1.1 X.1.2.1 dX10_deed_155 (by decide) k) ?_
      refine J.istore_n (i := 3) (lv' := [(3, .int 5), (2, va_rf a1), (0, .ref this), (1, va_rf a1)]) X.1.1 X.1.2.1 dX10_deed_156 rfl hl (by decide) (by first | rfl | simp [va_rf_cat, jcI, jcA, jcJ, jcD, jcF]) (fun ls hl => ?_)
      refine J.pu (fun _ _ _ _ k => lv_goto (tgt := 172) X.1.1 X.1.2.1 dX10_deed_157 (by decide) k) ?_
      exact j172 5 S5 ls (lv_sub hl [2, 0] rfl)
  refine J.ite (fun c8_3529652 => ?_) (fun c8_3529652 => ?_)
  · refine J.pu (fun _ _ _ _ k => lv_lookup (tgt := 132) (off := 124) X.1.1 X.1.2.1 dX10_deed_8 (by decide +kernel) (by rw [c8_3529652]; decide +kernel) (by decide) k) ?_
    refine J.pu (fun _ _ _ _ k => W.rload_n X.1.1 X.1.2.1 dX10_deed_132 rfl (lv_at hl 1 rfl) k) ?_
    refine J.pu (fun _ _ _ _ k => W.ldcS (i := 25) X rfl dX10_deed_133 k) ?_
    refine J.bind (fun o135 g135 => ?_)
    refine J.bind (fun v135 h135 => ?_)
    refine J.cV (q := (RJ9, TJ9, 4)) (ci := 21) (As := [va_rf (G.2.2.2 25)]) (rest := []) (s2 := [.int v135]) X ⟨rfl, rfl⟩ (ct_J9_equals l G S5 o135 (G.2.2.2 25)) (jrd_of h135) (fun _ _ => cwV 1 X.1.2.2.2.2 (lw_V q1797 q1558 q1559 q149 q1560) rfl rfl rfl (by decide +kernel) ⟨(Nat.le_of_ble_eq_true rfl), (Nat.le_of_ble_eq_true rfl)⟩) g135 rfl rfl hl.1 rfl rfl (Nat.le_of_ble_eq_true rfl) dX10_deed_135 ?_
    refine J.br (fun _ _ _ _ ka kb => lv_if_eq (tgt := 172) X.1.1 X.1.2.1 dX10_deed_138 (by decide) ka kb) (fun c138 => ?_) (fun c138 => ?_)
    · exact j172 (-1) S5 ls (lv_sub hl [2, 0] rfl)
    · refine J.pu (fun _ _ _ _ k => lv_iconst (v := 4) X.1.1 X.1.2.1 dX10_deed_141 (by decide) k) ?_
      refine J.istore_n (i := 3) (lv' := [(3, .int 4), (2, va_rf a1), (0, .ref this), (1, va_rf a1)]) X.1.1 X.1.2.1 dX10_deed_142 rfl hl (by decide) (by first | rfl | simp [va_rf_cat, jcI, jcA, jcJ, jcD, jcF]) (fun ls hl => ?_)
      refine J.pu (fun _ _ _ _ k => lv_goto (tgt := 172) X.1.1 X.1.2.1 dX10_deed_143 (by decide) k) ?_
      exact j172 4 S5 ls (lv_sub hl [2, 0] rfl)
  refine J.ite (fun c8_3533120 => ?_) (fun c8_3533120 => ?_)
  · refine J.pu (fun _ _ _ _ k => lv_lookup (tgt := 104) (off := 96) X.1.1 X.1.2.1 dX10_deed_8 (by decide +kernel) (by rw [c8_3533120]; decide +kernel) (by decide) k) ?_
    refine J.pu (fun _ _ _ _ k => W.rload_n X.1.1 X.1.2.1 dX10_deed_104 rfl (lv_at hl 1 rfl) k) ?_
    refine J.pu (fun _ _ _ _ k => W.ldcS (i := 23) X rfl dX10_deed_105 k) ?_
    refine J.bind (fun o107 g107 => ?_)
    refine J.bind (fun v107 h107 => ?_)
    refine J.cV (q := (RJ9, TJ9, 4)) (ci := 21) (As := [va_rf (G.2.2.2 23)]) (rest := []) (s2 := [.int v107]) X ⟨rfl, rfl⟩ (ct_J9_equals l G S5 o107 (G.2.2.2 23)) (jrd_of h107) (fun _ _ => cwV 1 X.1.2.2.2.2 (lw_V q1797 q1558 q1559 q149 q1560) rfl rfl rfl (by decide +kernel) ⟨(Nat.le_of_ble_eq_true rfl), (Nat.le_of_ble_eq_true rfl)⟩) g107 rfl rfl hl.1 rfl rfl (Nat.le_of_ble_eq_true rfl) dX10_deed_107 ?_
    refine J.br (fun _ _ _ _ ka kb => lv_if_eq (tgt := 172) X.1.1 X.1.2.1 dX10_deed_110 (by decide) ka kb) (fun c110 => ?_) (fun c110 => ?_)
    · exact j172 (-1) S5 ls (lv_sub hl [2, 0] rfl)
    · refine J.pu (fun _ _ _ _ k => lv_iconst (v := 2) X.1.1 X.1.2.1 dX10_deed_113 (by decide) k) ?_
      refine J.istore_n (i := 3) (lv' := [(3, .int 2), (2, va_rf a1), (0, .ref this), (1, va_rf a1)]) X.1.1 X.1.2.1 dX10_deed_114 rfl hl (by decide) (by first | rfl | simp [va_rf_cat, jcI, jcA, jcJ, jcD, jcF]) (fun ls hl => ?_)
      refine J.pu (fun _ _ _ _ k => lv_goto (tgt := 172) X.1.1 X.1.2.1 dX10_deed_115 (by decide) k) ?_
      exact j172 2 S5 ls (lv_sub hl [2, 0] rfl)
  refine J.ite (fun c8_3559837 => ?_) (fun c8_3559837 => ?_)
  · refine J.pu (fun _ _ _ _ k => lv_lookup (tgt := 90) (off := 82) X.1.1 X.1.2.1 dX10_deed_8 (by decide +kernel) (by rw [c8_3559837]; decide +kernel) (by decide) k) ?_
    refine J.pu (fun _ _ _ _ k => W.rload_n X.1.1 X.1.2.1 dX10_deed_90 rfl (lv_at hl 1 rfl) k) ?_
    refine J.pu (fun _ _ _ _ k => W.ldcS (i := 22) X rfl dX10_deed_91 k) ?_
    refine J.bind (fun o93 g93 => ?_)
    refine J.bind (fun v93 h93 => ?_)
    refine J.cV (q := (RJ9, TJ9, 4)) (ci := 21) (As := [va_rf (G.2.2.2 22)]) (rest := []) (s2 := [.int v93]) X ⟨rfl, rfl⟩ (ct_J9_equals l G S5 o93 (G.2.2.2 22)) (jrd_of h93) (fun _ _ => cwV 1 X.1.2.2.2.2 (lw_V q1797 q1558 q1559 q149 q1560) rfl rfl rfl (by decide +kernel) ⟨(Nat.le_of_ble_eq_true rfl), (Nat.le_of_ble_eq_true rfl)⟩) g93 rfl rfl hl.1 rfl rfl (Nat.le_of_ble_eq_true rfl) dX10_deed_93 ?_
    refine J.br (fun _ _ _ _ ka kb => lv_if_eq (tgt := 172) X.1.1 X.1.2.1 dX10_deed_96 (by decide) ka kb) (fun c96 => ?_) (fun c96 => ?_)
    · exact j172 (-1) S5 ls (lv_sub hl [2, 0] rfl)
    · refine J.pu (fun _ _ _ _ k => lv_iconst (v := 1) X.1.1 X.1.2.1 dX10_deed_99 (by decide) k) ?_
      refine J.istore_n (i := 3) (lv' := [(3, .int 1), (2, va_rf a1), (0, .ref this), (1, va_rf a1)]) X.1.1 X.1.2.1 dX10_deed_100 rfl hl (by decide) (by first | rfl | simp [va_rf_cat, jcI, jcA, jcJ, jcD, jcF]) (fun ls hl => ?_)
      refine J.pu (fun _ _ _ _ k => lv_goto (tgt := 172) X.1.1 X.1.2.1 dX10_deed_101 (by decide) k) ?_
      exact j172 1 S5 ls (lv_sub hl [2, 0] rfl)
  refine J.ite (fun c8_96634189 => ?_) (fun c8_96634189 => ?_)
  · refine J.pu (fun _ _ _ _ k => lv_lookup (tgt := 118) (off := 110) X.1.1 X.1.2.1 dX10_deed_8 (by decide +kernel) (by rw [c8_96634189]; decide +kernel) (by decide) k) ?_
    refine J.pu (fun _ _ _ _ k => W.rload_n X.1.1 X.1.2.1 dX10_deed_118 rfl (lv_at hl 1 rfl) k) ?_
    refine J.pu (fun _ _ _ _ k => W.ldcS (i := 24) X rfl dX10_deed_119 k) ?_
    refine J.bind (fun o121 g121 => ?_)
    refine J.bind (fun v121 h121 => ?_)
    refine J.cV (q := (RJ9, TJ9, 4)) (ci := 21) (As := [va_rf (G.2.2.2 24)]) (rest := []) (s2 := [.int v121]) X ⟨rfl, rfl⟩ (ct_J9_equals l G S5 o121 (G.2.2.2 24)) (jrd_of h121) (fun _ _ => cwV 1 X.1.2.2.2.2 (lw_V q1797 q1558 q1559 q149 q1560) rfl rfl rfl (by decide +kernel) ⟨(Nat.le_of_ble_eq_true rfl), (Nat.le_of_ble_eq_true rfl)⟩) g121 rfl rfl hl.1 rfl rfl (Nat.le_of_ble_eq_true rfl) dX10_deed_121 ?_
    refine J.br (fun _ _ _ _ ka kb => lv_if_eq (tgt := 172) X.1.1 X.1.2.1 dX10_deed_124 (by decide) ka kb) (fun c124 => ?_) (fun c124 => ?_)
    · exact j172 (-1) S5 ls (lv_sub hl [2, 0] rfl)
    · refine J.pu (fun _ _ _ _ k => lv_iconst (v := 3) X.1.1 X.1.2.1 dX10_deed_127 (by decide) k) ?_
      refine J.istore_n (i := 3) (lv' := [(3, .int 3), (2, va_rf a1), (0, .ref this), (1, va_rf a1)]) X.1.1 X.1.2.1 dX10_deed_128 rfl hl (by decide) (by first | rfl | simp [va_rf_cat, jcI, jcA, jcJ, jcD, jcF]) (fun ls hl => ?_)
      refine J.pu (fun _ _ _ _ k => lv_goto (tgt := 172) X.1.1 X.1.2.1 dX10_deed_129 (by decide) k) ?_
      exact j172 3 S5 ls (lv_sub hl [2, 0] rfl)
  refine J.pu (fun _ _ _ _ k => lv_lookup (tgt := 172) (off := 164) X.1.1 X.1.2.1 dX10_deed_8 (by decide +kernel) (by show Op.lookupswitch.offset [(-787751952, 152), (111375, 68), (3417674, 138), (3529652, 124), (3533120, 96), (3559837, 82), (96634189, 110)] _ _ = _; rw [lv_osw c8_m787751952 (by decide), lv_osw c8_111375 (by decide), lv_osw c8_3417674 (by decide), lv_osw c8_3529652 (by decide), lv_osw c8_3533120 (by decide), lv_osw c8_3559837 (by decide), lv_osw c8_96634189 (by decide)]; rfl) (by decide) k) ?_
  exact j172 (-1) S5 ls (lv_sub hl [2, 0] rfl)
noncomputable def X2_goes_h4 (G : jG) (n : Nat) (this : Nat) (a1 : Int32) (rec4 : Int32 × Int32 × jH → Option (Int32 × jH)) (q4 : Int32 × Int32 × jH) : Option (Int32 × jH) :=
  let x2_4 := q4.1; let x3_4 := q4.2.1; let B4 := q4.2.2; if a1 ≤ x3_4 then (some (x2_4, B4)) else ((rc B4 (some this) 1).bind fun o11 => bd (X2_ticks G n B4 o11) fun v11 S11 => rec4 ((x2_4 + v11), (x3_4 + 1), S11))
noncomputable def X2_goes_b (G : jG) (n : Nat) (σ : jH) (this : Nat) (a1 : Int32) : Option (Int32 × jH) :=
  jloop (X2_goes_h4 G n this a1) n (0, 0, σ)
noncomputable def X2_goes (G : jG) (n : Nat) (σ : jH) (this : Nat) (a1 : Int32) : Option (Int32 × jH) := jck σ (X2_goes_b G n σ this a1)
set_option maxHeartbeats 4000000 in
set_option maxRecDepth 100000 in
theorem ct_X2_goes (l : Launch) (G : jG) (n : Nat) (σ : jH) (this : Nat) (a1 : Int32) : jCt l G yX2_goes (ws_ yX2_goes cX2_goes 4 (some .int)) 26 1335 jrI [.ref this, .int a1] σ (X2_goes G n σ this a1) := by
  refine jCt.wr (lv := [(0, .ref this), (1, .int a1)]) (plainFor_of_name (by decide)) (Nat.le_of_ble_eq_true rfl) rfl ?_
  intro t p e s m args below meth c ls X hr hnm hl
  have X : jCx p c cX2_goes 4 s m args RX2 G meth := X
  have L4 : ∀ (n4 : Nat) (x2_4 : Int32) (x3_4 : Int32) (B4 : jH) (ls : Array Slot), lv_has ls 4 [(0, .ref this), (1, .int a1), (2, .int x2_4), (3, .int x3_4)] → jGo l G 26 1335 σ (Prod.snd : Int32 × jH → jH) (fun t => jrI t.1) t p e s m args below meth c (jloop (X2_goes_h4 G n this a1) n4 (x2_4, x3_4, B4)) B4 (F0 m 4 ls []) := by
    intro n4
    induction n4 with
    | zero => intro x2_4 x3_4 B4 ls hl; exact J.nil_
    | succ n4 ih4 =>
      intro x2_4 x3_4 B4 ls hl
      refine J.eq (jloop_s _ _ _) ?_
      dsimp only [X2_goes_h4]
      refine J.pu (fun _ _ _ _ k => lv_iload_n X.1.1 X.1.2.1 dX2_goes_4 rfl (lv_at hl 3 rfl) k) ?_
      refine J.pu (fun _ _ _ _ k => lv_iload_n X.1.1 X.1.2.1 dX2_goes_5 rfl (lv_at hl 1 rfl) k) ?_
      refine J.br (fun _ _ _ _ ka kb => lv_icmp_ge (tgt := 22) X.1.1 X.1.2.1 dX2_goes_6 (by decide) ka kb) (fun c6 => ?_) (fun c6 => ?_)
      · refine J.pu (fun _ _ _ _ k => lv_iload_n X.1.1 X.1.2.1 dX2_goes_22 rfl (lv_at hl 2 rfl) k) ?_
        exact J.iret (vr := fun t : Int32 × jH => jrI t.1) (fin := Prod.snd) (t := t) X hr (by rfl) (by rfl) dX2_goes_23
      · refine J.pu (fun _ _ _ _ k => lv_iload_n X.1.1 X.1.2.1 dX2_goes_9 rfl (lv_at hl 2 rfl) k) ?_
        refine J.pu (fun _ _ _ _ k => lv_aload_n X.1.1 X.1.2.1 dX2_goes_10 rfl (lv_at hl 0 rfl) k) ?_
        refine J.bind (fun o11 g11 => ?_)
        refine J.bd' (fun v11 S11 h11 => ?_)
        refine J.cV (q := (RX2, TX2, 9)) (ci := 1) (As := []) (rest := [.int x2_4]) (s2 := [.int v11, .int x2_4]) X ⟨rfl, rfl⟩ (ct_X2_ticks l G n B4 o11) h11 (fun _ _ => cwV 0 X.1.2.2.2.2 (lw_V q2056 q2057 q2058 q139 q2059) rfl rfl rfl (by decide +kernel) ⟨(Nat.le_of_ble_eq_true rfl), (Nat.le_of_ble_eq_true rfl)⟩) g11 rfl rfl hl.1 rfl rfl (Nat.le_of_ble_eq_true rfl) dX2_goes_11 ?_
        refine J.pu (fun _ _ _ _ k => lv_iadd X.1.1 X.1.2.1 dX2_goes_14 k) ?_
        refine J.istore_n (i := 2) (lv' := [(2, .int (x2_4 + v11)), (0, .ref this), (1, .int a1), (3, .int x3_4)]) X.1.1 X.1.2.1 dX2_goes_15 rfl hl (by decide) (by first | rfl | simp [va_rf_cat, jcI, jcA, jcJ, jcD, jcF]) (fun ls hl => ?_)
        refine J.iinc (k := 3) (lv' := [(3, .int (x3_4 + 1)), (2, .int (x2_4 + v11)), (0, .ref this), (1, .int a1)]) (w := (x3_4 + 1)) X.1.1 X.1.2.1 dX2_goes_16 hl rfl rfl (by decide) (by first | rfl | simp [va_rf_cat, jcI, jcA, jcJ, jcD, jcF]) (fun ls hl => ?_)
        refine J.pu (fun _ _ _ _ k => lv_goto (tgt := 4) X.1.1 X.1.2.1 dX2_goes_19 (by decide) k) ?_
        exact ih4 (x2_4 + v11) (x3_4 + 1) S11 ls (lv_sub hl [2, 3, 1, 0] rfl)
  unfold X2_goes_b
  refine J.pu (fun _ _ _ _ k => lv_iconst (v := 0) X.1.1 X.1.2.1 dX2_goes_0 (by decide) k) ?_
  refine J.istore_n (i := 2) (lv' := [(2, .int 0), (0, .ref this), (1, .int a1)]) X.1.1 X.1.2.1 dX2_goes_1 rfl hl (by decide) (by first | rfl | simp [va_rf_cat, jcI, jcA, jcJ, jcD, jcF]) (fun ls hl => ?_)
  refine J.pu (fun _ _ _ _ k => lv_iconst (v := 0) X.1.1 X.1.2.1 dX2_goes_2 (by decide) k) ?_
  refine J.istore_n (i := 3) (lv' := [(3, .int 0), (2, .int 0), (0, .ref this), (1, .int a1)]) X.1.1 X.1.2.1 dX2_goes_3 rfl hl (by decide) (by first | rfl | simp [va_rf_cat, jcI, jcA, jcJ, jcD, jcF]) (fun ls hl => ?_)
  exact L4 n 0 0 σ ls (lv_sub hl [2, 3, 1, 0] rfl)
noncomputable def X0_leavesIn_b (G : jG) (n : Nat) (σ : jH) (a0 : Option Nat) (a1 : Int32) (a2 : Option Nat) : Option (Int32 × jH) :=
  (rc σ a0 0).bind fun o4 => tc (X1_leavesIn G n σ o4 a1) (fun v4 S4 => (sJ G S4 a2 0 v4.toInt64).bind fun S8 => some (0, S8)) (fun k4 q4 S4 => if k4 = 2 then (some (1, S4)) else none)
noncomputable def X0_leavesIn (G : jG) (n : Nat) (σ : jH) (a0 : Option Nat) (a1 : Int32) (a2 : Option Nat) : Option (Int32 × jH) := jck σ (X0_leavesIn_b G n σ a0 a1 a2)
set_option maxHeartbeats 4000000 in
set_option maxRecDepth 100000 in
theorem ct_X0_leavesIn (l : Launch) (hfl : l.stackTraces = false) (G : jG) (n : Nat) (σ : jH) (a0 : Option Nat) (a1 : Int32) (a2 : Option Nat) : jCt l G yX0_leavesIn (wsW_ yX0_leavesIn cX0_leavesIn 4 (some .int) [(0, 9, 12, 22)]) 27 1360 jrI [va_rf a0, .int a1, va_rf a2] σ (X0_leavesIn G n σ a0 a1 a2) := by
  refine jCt.wrH (hh := [(0, 9, 12, 22)]) (lv := [(0, va_rf a0), (1, .int a1), (2, va_rf a2)]) (plainFor_of_name (by decide)) (by simp [lg_sl, va_rf_cat, jcI, jcA, jcJ, jcD, jcF]) (by simp [lv_args, va_rf_cat, jcI, jcA, jcJ, jcD, jcF]) ?_
  intro t p e s m args below meth c ls X hr hnm htab hl
  have X : jCx p c cX0_leavesIn 4 s m args RX0 G meth := X
  unfold X0_leavesIn_b
  refine J.pu (fun _ _ _ _ k => W.rload_n X.1.1 X.1.2.1 dX0_leavesIn_0 rfl (lv_at hl 2 rfl) k) ?_
  refine J.pu (fun _ _ _ _ k => lv_iconst (v := 0) X.1.1 X.1.2.1 dX0_leavesIn_1 (by decide) k) ?_
  refine J.pu (fun _ _ _ _ k => W.rload_n X.1.1 X.1.2.1 dX0_leavesIn_2 rfl (lv_at hl 0 rfl) k) ?_
  refine J.pu (fun _ _ _ _ k => lv_iload_n X.1.1 X.1.2.1 dX0_leavesIn_3 rfl (lv_at hl 1 rfl) k) ?_
  refine J.bind (fun o4 g4 => ?_)
  refine J.hV (q := (RX1, TX1, 9)) (ci := 0) (As := [.int a1]) (rest := [.int 0, va_rf a2]) X ⟨rfl, rfl⟩ (ct_X1_leavesIn l hfl G n σ o4 a1) (fun _ _ => cwV 1 X.1.2.2.2.2 (lw_V q2559 q2560 q2561 q138 q2562) rfl rfl rfl (by decide +kernel) ⟨(Nat.le_of_ble_eq_true rfl), (Nat.le_of_ble_eq_true rfl)⟩) g4 rfl rfl hl.1 rfl (by simp [va_rf_cat, jcI, jcA, jcJ, jcD, jcF]) dX0_leavesIn_4 (fun v4 S4 h4 => ?_) (fun k4 q4 S4 h4 => ?_)
  · refine J.geq (g2 := F0 m 7 ls [.int v4, .int 0, va_rf a2]) rfl ?_
    refine J.pu (fun _ _ _ _ k => lv_i2l (v := v4.toInt64) X.1.1 X.1.2.1 dX0_leavesIn_7 rfl k) ?_
    refine J.sJ' X dX0_leavesIn_8 (fun S8 h8 => ?_)
    refine J.pu (fun _ _ _ _ k => lv_goto (tgt := 15) X.1.1 X.1.2.1 dX0_leavesIn_9 (by decide) k) ?_
    refine J.pu (fun _ _ _ _ k => lv_iconst (v := 0) X.1.1 X.1.2.1 dX0_leavesIn_15 (by decide) k) ?_
    exact J.iret (vr := fun t : Int32 × jH => jrI t.1) (fin := Prod.snd) (t := t) X hr (by rfl) (by rfl) dX0_leavesIn_16
  · refine Jx.ite (fun k4_2 => ?_) (fun k4_2 => ?_)
    · refine Jx.catch_ (E := "java/lang/IndexOutOfBoundsException") (nm := "java/lang/IndexOutOfBoundsException") X k4_2 rfl [] (⟨0, 9, 12, 22⟩ : ExceptionTableEntry) [] (htab.trans rfl) jnil_all rfl (by decide) q2420 jnc4 ?_
      refine J.astore_n (r := (some q4)) (i := 3) (lv' := [(3, va_rf (some q4)), (0, va_rf a0), (1, .int a1), (2, va_rf a2)]) X.1.1 X.1.2.1 dX0_leavesIn_12 rfl hl (by decide) (by first | rfl | simp [va_rf_cat, jcI, jcA, jcJ, jcD, jcF]) (fun ls hl => ?_)
      refine J.pu (fun _ _ _ _ k => lv_iconst (v := 1) X.1.1 X.1.2.1 dX0_leavesIn_13 (by decide) k) ?_
      exact J.iret (vr := fun t : Int32 × jH => jrI t.1) (fin := Prod.snd) (t := t) X hr (by rfl) (by rfl) dX0_leavesIn_14
    exact Jx.nil_
noncomputable def X1_endsAs_b (G : jG) (n : Nat) (σ : jH) (this : Nat) (a1 : Int32) (a2 : Int32) : Option (jTh Int32 × jH) :=
  (rc σ (some this) 0).bind fun o2 => tb (X1_parcelAt G n σ o2 a1) fun v2 S2 => tb (X1_checkTicks G n S2 a2) fun v7 S7 => (rc S7 (some this) 0).bind fun o11 => bd (X1_think G n S7 o11) fun v11 S11 => (rc S11 v11 1).bind fun o19 => bd (X2_goes G n S11 o19 a2) fun v19 S19 => (rc S19 v11 1).bind fun o27 => (X2_parcel G n S19 o27 a1).bind fun v27 => (X1_ending G n S19 v27).bind fun v30 => some (.inl v30, S19)
noncomputable def X1_endsAs (G : jG) (n : Nat) (σ : jH) (this : Nat) (a1 : Int32) (a2 : Int32) : Option (jTh Int32 × jH) := jck σ (X1_endsAs_b G n σ this a1 a2)
set_option maxHeartbeats 4000000 in
set_option maxRecDepth 100000 in
theorem ct_X1_endsAs (l : Launch) (hfl : l.stackTraces = false) (G : jG) (n : Nat) (σ : jH) (this : Nat) (a1 : Int32) (a2 : Int32) : jTt l G yX1_endsAs (ws_ yX1_endsAs cX1_endsAs 6 (some .int)) 27 1358 jrI [.ref this, .int a1, .int a2] σ (X1_endsAs G n σ this a1 a2) := by
  refine jTt.wr (lv := [(0, .ref this), (1, .int a1), (2, .int a2)]) rfl (Nat.le_of_ble_eq_true rfl) rfl ?_
  intro t p e s m args below meth c ls X hr hnm hout hl
  have X : jCx p c cX1_endsAs 6 s m args RX1 G meth := X
  unfold X1_endsAs_b
  refine J.pu (fun _ _ _ _ k => lv_aload_n X.1.1 X.1.2.1 dX1_endsAs_0 rfl (lv_at hl 0 rfl) k) ?_
  refine J.pu (fun _ _ _ _ k => lv_iload_n X.1.1 X.1.2.1 dX1_endsAs_1 rfl (lv_at hl 1 rfl) k) ?_
  refine J.bind (fun o2 g2 => ?_)
  refine J.tV (q := (RX1, TX1, 9)) (ci := 0) (As := [.int a1]) (rest := []) X hout ⟨rfl, rfl⟩ (ct_X1_parcelAt l hfl G n σ o2 a1) (fun _ _ => cwV 1 X.1.2.2.2.2 (lw_V q2454 q2456 qs47 q138 q2457) rfl rfl rfl (by decide +kernel) ⟨(Nat.le_of_ble_eq_true rfl), (Nat.le_of_ble_eq_true rfl)⟩) g2 rfl rfl hl.1 rfl (Nat.le_of_ble_eq_true rfl) dX1_endsAs_2 (fun v2 S2 h2 => ?_)
  refine J.geq (g2 := F0 m 5 ls [va_rf v2]) rfl ?_
  refine J.astore_n (r := v2) (i := 3) (lv' := [(3, va_rf v2), (0, .ref this), (1, .int a1), (2, .int a2)]) X.1.1 X.1.2.1 dX1_endsAs_5 rfl hl (by decide) (by first | rfl | simp [va_rf_cat, jcI, jcA, jcJ, jcD, jcF]) (fun ls hl => ?_)
  refine J.pu (fun _ _ _ _ k => lv_iload_n X.1.1 X.1.2.1 dX1_endsAs_6 rfl (lv_at hl 3 rfl) k) ?_
  refine J.tS (As := [.int a2]) (rest := []) X hout ⟨rfl, rfl⟩ (ct_X1_checkTicks l hfl G n S2 a2) (fun _ _ => va_cwS 1 X.1.2.2.2.2 (lw_S q2570 q2571 q138 q2572) rfl rfl rfl (by decide +kernel) ⟨(Nat.le_of_ble_eq_true rfl), (Nat.le_of_ble_eq_true rfl)⟩) rfl hl.1 rfl (Nat.le_of_ble_eq_true rfl) dX1_endsAs_7 (fun v7 S7 h7 => ?_)
  refine J.geq (g2 := F0 m 10 ls []) rfl ?_
  refine J.pu (fun _ _ _ _ k => lv_aload_n X.1.1 X.1.2.1 dX1_endsAs_10 rfl (lv_at hl 1 rfl) k) ?_
  refine J.bind (fun o11 g11 => ?_)
  refine J.bd' (fun v11 S11 h11 => ?_)
  refine J.cV (q := (RX1, TX1, 9)) (ci := 0) (As := []) (rest := []) (s2 := [va_rf v11]) X ⟨rfl, rfl⟩ (ct_X1_think l G n S7 o11) h11 (fun _ _ => cwV 0 X.1.2.2.2.2 (lw_V q2162 q2164 qs39 q138 q2165) rfl rfl rfl (by decide +kernel) ⟨(Nat.le_of_ble_eq_true rfl), (Nat.le_of_ble_eq_true rfl)⟩) g11 rfl rfl hl.1 rfl rfl (Nat.le_of_ble_eq_true rfl) dX1_endsAs_11 ?_
  refine J.astore (r := v11) (lv' := [(4, va_rf v11), (3, va_rf v2), (0, .ref this), (1, .int a1), (2, .int a2)]) X.1.1 X.1.2.1 dX1_endsAs_14 hl (by decide) (by first | rfl | simp [va_rf_cat, jcI, jcA, jcJ, jcD, jcF]) (fun ls hl => ?_)
  refine J.pu (fun _ _ _ _ k => W.rload X.1.1 X.1.2.1 dX1_endsAs_16 (lv_at hl 0 rfl) k) ?_
  refine J.pu (fun _ _ _ _ k => lv_iload_n X.1.1 X.1.2.1 dX1_endsAs_18 rfl (lv_at hl 4 rfl) k) ?_
  refine J.bind (fun o19 g19 => ?_)
  refine J.bd' (fun v19 S19 h19 => ?_)
  refine J.cV (q := (RX2, TX2, 9)) (ci := 1) (As := [.int a2]) (rest := []) (s2 := [.int v19]) X ⟨rfl, rfl⟩ (ct_X2_goes l G n S11 o19 a2) h19 (fun _ _ => cwV 1 X.1.2.2.2.2 (lw_V q2574 q2053 q2054 q139 q2055) rfl rfl rfl (by decide +kernel) ⟨(Nat.le_of_ble_eq_true rfl), (Nat.le_of_ble_eq_true rfl)⟩) g19 rfl rfl hl.1 rfl rfl (Nat.le_of_ble_eq_true rfl) dX1_endsAs_19 ?_
  refine J.istore (lv' := [(5, .int v19), (4, va_rf v11), (3, va_rf v2), (0, .ref this), (1, .int a1), (2, .int a2)]) X.1.1 X.1.2.1 dX1_endsAs_22 hl (by decide) (by first | rfl | simp [va_rf_cat, jcI, jcA, jcJ, jcD, jcF]) (fun ls hl => ?_)
  refine J.pu (fun _ _ _ _ k => W.rload X.1.1 X.1.2.1 dX1_endsAs_24 (lv_at hl 1 rfl) k) ?_
  refine J.pu (fun _ _ _ _ k => lv_iload_n X.1.1 X.1.2.1 dX1_endsAs_26 rfl (lv_at hl 4 rfl) k) ?_
  refine J.bind (fun o27 g27 => ?_)
  refine J.bind (fun v27 h27 => ?_)
  refine J.cV (q := (RX2, TX2, 9)) (ci := 1) (As := [.int a1]) (rest := []) (s2 := [va_rf v27]) X ⟨rfl, rfl⟩ (ct_X2_parcel l G n S19 o27 a1) (jrd_of h27) (fun _ _ => cwV 1 X.1.2.2.2.2 (lw_V q2179 q943 q944 q139 q945) rfl rfl rfl (by decide +kernel) ⟨(Nat.le_of_ble_eq_true rfl), (Nat.le_of_ble_eq_true rfl)⟩) g27 rfl rfl hl.1 rfl rfl (Nat.le_of_ble_eq_true rfl) dX1_endsAs_27 ?_
  refine J.bind (fun v30 h30 => ?_)
  refine J.cS (As := [va_rf v27]) (rest := []) (s2 := [.int v30]) X ⟨rfl, rfl⟩ (ct_X1_ending l G n S19 v27) (jrd_of h30) (fun _ _ => va_cwS 1 X.1.2.2.2.2 (lw_S q2575 q2576 q138 q2577) rfl rfl rfl (by decide +kernel) ⟨(Nat.le_of_ble_eq_true rfl), (Nat.le_of_ble_eq_true rfl)⟩) rfl hl.1 rfl rfl (Nat.le_of_ble_eq_true rfl) dX1_endsAs_30 ?_
  exact J.tret (J.iret (vr := fun t : Int32 × jH => jrI t.1) (fin := (Prod.snd : Int32 × jH → jH)) (t := (v30, S19)) X hr (by rfl) (by rfl) dX1_endsAs_33)
noncomputable def X1_heldIn_b (G : jG) (n : Nat) (σ : jH) (this : Nat) (a1 : Int32) (a2 : Int32) : Option (jTh Int32 × jH) :=
  (rc σ (some this) 0).bind fun o2 => tb (X1_chuteAt G n σ o2 a1) fun v2 S2 => tb (X1_checkTicks G n S2 a2) fun v7 S7 => (rc S7 (some this) 0).bind fun o11 => bd (X1_think G n S7 o11) fun v11 S11 => (rc S11 v11 1).bind fun o19 => bd (X2_goes G n S11 o19 a2) fun v19 S19 => (rc S19 v11 1).bind fun o27 => (X2_chute G n S19 o27 a1).bind fun v27 => (gR S19 v27 3 4).bind fun v30 => (rc S19 v30 16).bind fun o33 => (lSize 1 S19 o33).bind fun v33 => some (.inl v33, S19)
noncomputable def X1_heldIn (G : jG) (n : Nat) (σ : jH) (this : Nat) (a1 : Int32) (a2 : Int32) : Option (jTh Int32 × jH) := jck σ (X1_heldIn_b G n σ this a1 a2)
set_option maxHeartbeats 4000000 in
set_option maxRecDepth 100000 in
theorem ct_X1_heldIn (l : Launch) (hfl : l.stackTraces = false) (G : jG) (n : Nat) (σ : jH) (this : Nat) (a1 : Int32) (a2 : Int32) : jTt l G yX1_heldIn (ws_ yX1_heldIn cX1_heldIn 6 (some .int)) 27 1358 jrI [.ref this, .int a1, .int a2] σ (X1_heldIn G n σ this a1 a2) := by
  refine jTt.wr (lv := [(0, .ref this), (1, .int a1), (2, .int a2)]) rfl (Nat.le_of_ble_eq_true rfl) rfl ?_
  intro t p e s m args below meth c ls X hr hnm hout hl
  have X : jCx p c cX1_heldIn 6 s m args RX1 G meth := X
  unfold X1_heldIn_b
  refine J.pu (fun _ _ _ _ k => lv_aload_n X.1.1 X.1.2.1 dX1_heldIn_0 rfl (lv_at hl 0 rfl) k) ?_
  refine J.pu (fun _ _ _ _ k => lv_iload_n X.1.1 X.1.2.1 dX1_heldIn_1 rfl (lv_at hl 1 rfl) k) ?_
  refine J.bind (fun o2 g2 => ?_)
  refine J.tV (q := (RX1, TX1, 9)) (ci := 0) (As := [.int a1]) (rest := []) X hout ⟨rfl, rfl⟩ (ct_X1_chuteAt l hfl G n σ o2 a1) (fun _ _ => cwV 1 X.1.2.2.2.2 (lw_V q2465 q2467 qs48 q138 q2468) rfl rfl rfl (by decide +kernel) ⟨(Nat.le_of_ble_eq_true rfl), (Nat.le_of_ble_eq_true rfl)⟩) g2 rfl rfl hl.1 rfl (Nat.le_of_ble_eq_true rfl) dX1_heldIn_2 (fun v2 S2 h2 => ?_)
  refine J.geq (g2 := F0 m 5 ls [va_rf v2]) rfl ?_
  refine J.astore_n (r := v2) (i := 3) (lv' := [(3, va_rf v2), (0, .ref this), (1, .int a1), (2, .int a2)]) X.1.1 X.1.2.1 dX1_heldIn_5 rfl hl (by decide) (by first | rfl | simp [va_rf_cat, jcI, jcA, jcJ, jcD, jcF]) (fun ls hl => ?_)
  refine J.pu (fun _ _ _ _ k => lv_iload_n X.1.1 X.1.2.1 dX1_heldIn_6 rfl (lv_at hl 3 rfl) k) ?_
  refine J.tS (As := [.int a2]) (rest := []) X hout ⟨rfl, rfl⟩ (ct_X1_checkTicks l hfl G n S2 a2) (fun _ _ => va_cwS 1 X.1.2.2.2.2 (lw_S q2570 q2571 q138 q2572) rfl rfl rfl (by decide +kernel) ⟨(Nat.le_of_ble_eq_true rfl), (Nat.le_of_ble_eq_true rfl)⟩) rfl hl.1 rfl (Nat.le_of_ble_eq_true rfl) dX1_heldIn_7 (fun v7 S7 h7 => ?_)
  refine J.geq (g2 := F0 m 10 ls []) rfl ?_
  refine J.pu (fun _ _ _ _ k => lv_aload_n X.1.1 X.1.2.1 dX1_heldIn_10 rfl (lv_at hl 1 rfl) k) ?_
  refine J.bind (fun o11 g11 => ?_)
  refine J.bd' (fun v11 S11 h11 => ?_)
  refine J.cV (q := (RX1, TX1, 9)) (ci := 0) (As := []) (rest := []) (s2 := [va_rf v11]) X ⟨rfl, rfl⟩ (ct_X1_think l G n S7 o11) h11 (fun _ _ => cwV 0 X.1.2.2.2.2 (lw_V q2162 q2164 qs39 q138 q2165) rfl rfl rfl (by decide +kernel) ⟨(Nat.le_of_ble_eq_true rfl), (Nat.le_of_ble_eq_true rfl)⟩) g11 rfl rfl hl.1 rfl rfl (Nat.le_of_ble_eq_true rfl) dX1_heldIn_11 ?_
  refine J.astore (r := v11) (lv' := [(4, va_rf v11), (3, va_rf v2), (0, .ref this), (1, .int a1), (2, .int a2)]) X.1.1 X.1.2.1 dX1_heldIn_14 hl (by decide) (by first | rfl | simp [va_rf_cat, jcI, jcA, jcJ, jcD, jcF]) (fun ls hl => ?_)
  refine J.pu (fun _ _ _ _ k => W.rload X.1.1 X.1.2.1 dX1_heldIn_16 (lv_at hl 0 rfl) k) ?_
  refine J.pu (fun _ _ _ _ k => lv_iload_n X.1.1 X.1.2.1 dX1_heldIn_18 rfl (lv_at hl 4 rfl) k) ?_
  refine J.bind (fun o19 g19 => ?_)
  refine J.bd' (fun v19 S19 h19 => ?_)
  refine J.cV (q := (RX2, TX2, 9)) (ci := 1) (As := [.int a2]) (rest := []) (s2 := [.int v19]) X ⟨rfl, rfl⟩ (ct_X2_goes l G n S11 o19 a2) h19 (fun _ _ => cwV 1 X.1.2.2.2.2 (lw_V q2574 q2053 q2054 q139 q2055) rfl rfl rfl (by decide +kernel) ⟨(Nat.le_of_ble_eq_true rfl), (Nat.le_of_ble_eq_true rfl)⟩) g19 rfl rfl hl.1 rfl rfl (Nat.le_of_ble_eq_true rfl) dX1_heldIn_19 ?_
  refine J.istore (lv' := [(5, .int v19), (4, va_rf v11), (3, va_rf v2), (0, .ref this), (1, .int a1), (2, .int a2)]) X.1.1 X.1.2.1 dX1_heldIn_22 hl (by decide) (by first | rfl | simp [va_rf_cat, jcI, jcA, jcJ, jcD, jcF]) (fun ls hl => ?_)
  refine J.pu (fun _ _ _ _ k => W.rload X.1.1 X.1.2.1 dX1_heldIn_24 (lv_at hl 1 rfl) k) ?_
  refine J.pu (fun _ _ _ _ k => lv_iload_n X.1.1 X.1.2.1 dX1_heldIn_26 rfl (lv_at hl 4 rfl) k) ?_
  refine J.bind (fun o27 g27 => ?_)
  refine J.bind (fun v27 h27 => ?_)
  refine J.cV (q := (RX2, TX2, 9)) (ci := 1) (As := [.int a1]) (rest := []) (s2 := [va_rf v27]) X ⟨rfl, rfl⟩ (ct_X2_chute l G n S19 o27 a1) (jrd_of h27) (fun _ _ => cwV 1 X.1.2.2.2.2 (lw_V q2185 q844 q845 q139 q846) rfl rfl rfl (by decide +kernel) ⟨(Nat.le_of_ble_eq_true rfl), (Nat.le_of_ble_eq_true rfl)⟩) g27 rfl rfl hl.1 rfl rfl (Nat.le_of_ble_eq_true rfl) dX1_heldIn_27 ?_
  refine J.getRN (k := 4) (ci := 3) X in_X4 (show jCl[3]? = some (RX4, TX4, 9) from rfl) (by decide) jnf24 (fun _ h => h) dX1_heldIn_30 (fun v30 h30 => ?_)
  refine J.bind (fun o33 g33 => ?_)
  refine J.bind (fun v33 h33 => ?_)
  refine J.cF (q := (RJ19, TJ19, 4)) (ci := 16) (As := []) (rest := []) (s2 := [.int v33]) X ⟨rfl, rfl⟩ (ct_J19_size l G S19 o33) (jrd_of h33) (fun _ _ => va_cwF 0 X.1.2.2.2.2 (lw_F q1751 q837 q839 q163 q841) rfl rfl rfl (jfw3 X.2.1) (by decide +kernel) ⟨(Nat.le_of_ble_eq_true rfl), (Nat.le_of_ble_eq_true rfl)⟩) g33 rfl rfl hl.1 rfl rfl (Nat.le_of_ble_eq_true rfl) dX1_heldIn_33 ?_
  exact J.tret (J.iret (vr := fun t : Int32 × jH => jrI t.1) (fin := (Prod.snd : Int32 × jH → jH)) (t := (v33, S19)) X hr (by rfl) (by rfl) dX1_heldIn_38)
noncomputable def X1_growsIn_j29 (G : jG) (n : Nat) (this : Nat) (a1 : Int32) (a2 : Int32) (s0_29 : Int32) (B29 : jH) : Option (jTh Int32 × jH) :=
  tb (X1_checkArgument G n B29 s0_29) fun v29 S29 => (rc S29 (some this) 0).bind fun o33 => bd (X1_think G n S29 o33) fun v33 S33 => (rc S33 v33 1).bind fun o39 => bd (X2_goes G n S33 o39 a2) fun v39 S39 => (gR S39 v33 1 6).bind fun v45 => (aI S39 v45 0 a1).bind fun v49 => (gR S39 (some this) 0 4).bind fun v51 => (gR S39 v51 1 6).bind fun v54 => (aI S39 v54 0 a1).bind fun v58 => some (.inl (v49 - v58), S39)
noncomputable def X1_growsIn_j28 (G : jG) (n : Nat) (this : Nat) (a1 : Int32) (a2 : Int32) (B28 : jH) : Option (jTh Int32 × jH) :=
  X1_growsIn_j29 G n this a1 a2 0 B28
noncomputable def X1_growsIn_b (G : jG) (n : Nat) (σ : jH) (this : Nat) (a1 : Int32) (a2 : Int32) : Option (jTh Int32 × jH) :=
  (X1_isIn G n σ a1.toInt64 0 11).bind fun v6 => if v6 = 0 then (X1_growsIn_j28 G n this a1 a2 σ) else ((X1_isIn G n σ a2.toInt64 0 500).bind fun v18 => if v18 = 0 then (X1_growsIn_j28 G n this a1 a2 σ) else (X1_growsIn_j29 G n this a1 a2 1 σ))
noncomputable def X1_growsIn (G : jG) (n : Nat) (σ : jH) (this : Nat) (a1 : Int32) (a2 : Int32) : Option (jTh Int32 × jH) := jck σ (X1_growsIn_b G n σ this a1 a2)
set_option maxHeartbeats 4000000 in
set_option maxRecDepth 100000 in
theorem ct_X1_growsIn (l : Launch) (hfl : l.stackTraces = false) (G : jG) (n : Nat) (σ : jH) (this : Nat) (a1 : Int32) (a2 : Int32) : jTt l G yX1_growsIn (ws_ yX1_growsIn cX1_growsIn 5 (some .int)) 27 1358 jrI [.ref this, .int a1, .int a2] σ (X1_growsIn G n σ this a1 a2) := by
  refine jTt.wr (lv := [(0, .ref this), (1, .int a1), (2, .int a2)]) rfl (Nat.le_of_ble_eq_true rfl) rfl ?_
  intro t p e s m args below meth c ls X hr hnm hout hl
  have X : jCx p c cX1_growsIn 5 s m args RX1 G meth := X
  have j29 : ∀ (s0_29 : Int32) (B29 : jH) (ls : Array Slot), lv_has ls 5 [(0, .ref this), (1, .int a1), (2, .int a2)] → jGoT l G 27 1358 σ jrI t p e s m args below meth c (X1_growsIn_j29 G n this a1 a2 s0_29 B29) B29 (F0 m 29 ls [.int s0_29]) := by
    intro s0_29 B29 ls hl
    unfold X1_growsIn_j29
    refine J.tS (As := [.int s0_29]) (rest := []) X hout ⟨rfl, rfl⟩ (ct_X1_checkArgument l hfl G n B29 s0_29) (fun _ _ => va_cwS 1 X.1.2.2.2.2 (lw_S q2414 q2415 q138 q2416) rfl rfl rfl (by decide +kernel) ⟨(Nat.le_of_ble_eq_true rfl), (Nat.le_of_ble_eq_true rfl)⟩) rfl hl.1 rfl (Nat.le_of_ble_eq_true rfl) dX1_growsIn_29 (fun v29 S29 h29 => ?_)
    refine J.geq (g2 := F0 m 32 ls []) rfl ?_
    refine J.pu (fun _ _ _ _ k => lv_aload_n X.1.1 X.1.2.1 dX1_growsIn_32 rfl (lv_at hl 0 rfl) k) ?_
    refine J.bind (fun o33 g33 => ?_)
    refine J.bd' (fun v33 S33 h33 => ?_)
    refine J.cV (q := (RX1, TX1, 9)) (ci := 0) (As := []) (rest := []) (s2 := [va_rf v33]) X ⟨rfl, rfl⟩ (ct_X1_think l G n S29 o33) h33 (fun _ _ => cwV 0 X.1.2.2.2.2 (lw_V q2162 q2164 qs39 q138 q2165) rfl rfl rfl (by decide +kernel) ⟨(Nat.le_of_ble_eq_true rfl), (Nat.le_of_ble_eq_true rfl)⟩) g33 rfl rfl hl.1 rfl rfl (Nat.le_of_ble_eq_true rfl) dX1_growsIn_33 ?_
    refine J.astore_n (r := v33) (i := 3) (lv' := [(3, va_rf v33), (0, .ref this), (1, .int a1), (2, .int a2)]) X.1.1 X.1.2.1 dX1_growsIn_36 rfl hl (by decide) (by first | rfl | simp [va_rf_cat, jcI, jcA, jcJ, jcD, jcF]) (fun ls hl => ?_)
    refine J.pu (fun _ _ _ _ k => W.rload_n X.1.1 X.1.2.1 dX1_growsIn_37 rfl (lv_at hl 0 rfl) k) ?_
    refine J.pu (fun _ _ _ _ k => lv_iload_n X.1.1 X.1.2.1 dX1_growsIn_38 rfl (lv_at hl 3 rfl) k) ?_
    refine J.bind (fun o39 g39 => ?_)
    refine J.bd' (fun v39 S39 h39 => ?_)
    refine J.cV (q := (RX2, TX2, 9)) (ci := 1) (As := [.int a2]) (rest := []) (s2 := [.int v39]) X ⟨rfl, rfl⟩ (ct_X2_goes l G n S33 o39 a2) h39 (fun _ _ => cwV 1 X.1.2.2.2.2 (lw_V q2574 q2053 q2054 q139 q2055) rfl rfl rfl (by decide +kernel) ⟨(Nat.le_of_ble_eq_true rfl), (Nat.le_of_ble_eq_true rfl)⟩) g39 rfl rfl hl.1 rfl rfl (Nat.le_of_ble_eq_true rfl) dX1_growsIn_39 ?_
    refine J.istore (lv' := [(4, .int v39), (3, va_rf v33), (0, .ref this), (1, .int a1), (2, .int a2)]) X.1.1 X.1.2.1 dX1_growsIn_42 hl (by decide) (by first | rfl | simp [va_rf_cat, jcI, jcA, jcJ, jcD, jcF]) (fun ls hl => ?_)
    refine J.pu (fun _ _ _ _ k => W.rload_n X.1.1 X.1.2.1 dX1_growsIn_44 rfl (lv_at hl 1 rfl) k) ?_
    refine J.getRN (k := 6) (ci := 1) X in_X2 (show jCl[1]? = some (RX2, TX2, 9) from rfl) (by decide) jnf12 (fun _ h => h) dX1_growsIn_45 (fun v45 h45 => ?_)
    refine J.pu (fun _ _ _ _ k => lv_iload_n X.1.1 X.1.2.1 dX1_growsIn_48 rfl (lv_at hl 3 rfl) k) ?_
    refine J.aI0 X dX1_growsIn_49 (fun v49 h49 => ?_)
    refine J.pu (fun _ _ _ _ k => lv_aload_n X.1.1 X.1.2.1 dX1_growsIn_50 rfl (lv_at hl 2 rfl) k) ?_
    refine J.getR (k := 4) (ci := 0) X in_X1 (show jCl[0]? = some (RX1, TX1, 9) from rfl) (by decide) q1329 (fun _ h => h) dX1_growsIn_51 (fun v51 h51 => ?_)
    refine J.getRN (k := 6) (ci := 1) X in_X2 (show jCl[1]? = some (RX2, TX2, 9) from rfl) (by decide) jnf12 (fun _ h => h) dX1_growsIn_54 (fun v54 h54 => ?_)
    refine J.pu (fun _ _ _ _ k => lv_iload_n X.1.1 X.1.2.1 dX1_growsIn_57 rfl (lv_at hl 3 rfl) k) ?_
    refine J.aI0 X dX1_growsIn_58 (fun v58 h58 => ?_)
    refine J.pu (fun _ _ _ _ k => lv_isub X.1.1 X.1.2.1 dX1_growsIn_59 k) ?_
    exact J.tret (J.iret (vr := fun t : Int32 × jH => jrI t.1) (fin := (Prod.snd : Int32 × jH → jH)) (t := ((v49 - v58), S39)) X hr (by rfl) (by rfl) dX1_growsIn_60)
  have j28 : ∀ (B28 : jH) (ls : Array Slot), lv_has ls 5 [(0, .ref this), (1, .int a1), (2, .int a2)] → jGoT l G 27 1358 σ jrI t p e s m args below meth c (X1_growsIn_j28 G n this a1 a2 B28) B28 (F0 m 28 ls []) := by
    intro B28 ls hl
    unfold X1_growsIn_j28
    refine J.pu (fun _ _ _ _ k => lv_iconst (v := 0) X.1.1 X.1.2.1 dX1_growsIn_28 (by decide) k) ?_
    exact j29 0 B28 ls (lv_sub hl [0, 1, 2] rfl)
  unfold X1_growsIn_b
  refine J.pu (fun _ _ _ _ k => lv_iload_n X.1.1 X.1.2.1 dX1_growsIn_0 rfl (lv_at hl 1 rfl) k) ?_
  refine J.pu (fun _ _ _ _ k => lv_i2l (v := a1.toInt64) X.1.1 X.1.2.1 dX1_growsIn_1 rfl k) ?_
  refine J.pu (fun _ _ _ _ k => lv_lconst (v := 0) X.1.1 X.1.2.1 dX1_growsIn_2 (by decide) k) ?_
  refine J.pu (fun _ _ _ _ k => lv_ldc2 (v := 11) X.1.1 X.1.2.1 X.1.2.2.2.1 (X.1.2.2.2.2 _ q2413) dX1_growsIn_3 k) ?_
  refine J.bind (fun v6 h6 => ?_)
  refine J.cS (As := [.long a1.toInt64, .long 0, .long 11]) (rest := []) (s2 := [.int v6]) X ⟨rfl, rfl⟩ (ct_X1_isIn l G n σ a1.toInt64 0 11) (jrd_of h6) (fun _ _ => va_cwS 3 X.1.2.2.2.2 (lw_S q1365 q1366 q138 q1367) rfl rfl rfl (by decide +kernel) ⟨(Nat.le_of_ble_eq_true rfl), (Nat.le_of_ble_eq_true rfl)⟩) rfl hl.1 rfl rfl (Nat.le_of_ble_eq_true rfl) dX1_growsIn_6 ?_
  refine J.br (fun _ _ _ _ ka kb => lv_if_eq (tgt := 28) X.1.1 X.1.2.1 dX1_growsIn_9 (by decide) ka kb) (fun c9 => ?_) (fun c9 => ?_)
  · exact j28 σ ls (lv_sub hl [0, 1, 2] rfl)
  · refine J.pu (fun _ _ _ _ k => lv_iload_n X.1.1 X.1.2.1 dX1_growsIn_12 rfl (lv_at hl 2 rfl) k) ?_
    refine J.pu (fun _ _ _ _ k => lv_i2l (v := a2.toInt64) X.1.1 X.1.2.1 dX1_growsIn_13 rfl k) ?_
    refine J.pu (fun _ _ _ _ k => lv_lconst (v := 0) X.1.1 X.1.2.1 dX1_growsIn_14 (by decide) k) ?_
    refine J.pu (fun _ _ _ _ k => lv_ldc2 (v := 500) X.1.1 X.1.2.1 X.1.2.2.2.1 (X.1.2.2.2.2 _ q2573) dX1_growsIn_15 k) ?_
    refine J.bind (fun v18 h18 => ?_)
    refine J.cS (As := [.long a2.toInt64, .long 0, .long 500]) (rest := []) (s2 := [.int v18]) X ⟨rfl, rfl⟩ (ct_X1_isIn l G n σ a2.toInt64 0 500) (jrd_of h18) (fun _ _ => va_cwS 3 X.1.2.2.2.2 (lw_S q1365 q1366 q138 q1367) rfl rfl rfl (by decide +kernel) ⟨(Nat.le_of_ble_eq_true rfl), (Nat.le_of_ble_eq_true rfl)⟩) rfl hl.1 rfl rfl (Nat.le_of_ble_eq_true rfl) dX1_growsIn_18 ?_
    refine J.br (fun _ _ _ _ ka kb => lv_if_eq (tgt := 28) X.1.1 X.1.2.1 dX1_growsIn_21 (by decide) ka kb) (fun c21 => ?_) (fun c21 => ?_)
    · exact j28 σ ls (lv_sub hl [0, 1, 2] rfl)
    · refine J.pu (fun _ _ _ _ k => lv_iconst (v := 1) X.1.1 X.1.2.1 dX1_growsIn_24 (by decide) k) ?_
      refine J.pu (fun _ _ _ _ k => lv_goto (tgt := 29) X.1.1 X.1.2.1 dX1_growsIn_25 (by decide) k) ?_
      exact j29 1 σ ls (lv_sub hl [0, 1, 2] rfl)
noncomputable def X1_sortedIf_j32 (G : jG) (n : Nat) (this : Nat) (a1 : Int32) (a2 : Int32) (x3_32 : Option Nat) (B32 : jH) : Option (Int32 × jH) :=
  (rc B32 x3_32 1).bind fun o34 => bd (X2_goes G n B32 o34 a2) fun v34 S34 => (gR S34 x3_32 1 6).bind fun v40 => (aI S34 v40 0 2).bind fun v44 => some (v44, S34)
noncomputable def X1_sortedIf_b (G : jG) (n : Nat) (σ : jH) (this : Nat) (a1 : Int32) (a2 : Int32) : Option (Int32 × jH) :=
  (rc σ (some this) 0).bind fun o1 => bd (X1_think G n σ o1) fun v1 S1 => if a1 = (-1) then (X1_sortedIf_j32 G n this a1 a2 v1 S1) else ((rc S1 v1 1).bind fun o13 => (X2_chute G n S1 o13 a1).bind fun v13 => (rc S1 v1 1).bind fun o16 => bd (X2_empties G n S1 o16 v13) fun v16 S16 => (rc S16 v1 1).bind fun o22 => (X2_chute G n S16 o22 a1).bind fun v22 => (rc S16 v1 1).bind fun o26 => bd (X2_opens G n S16 o26 v22 1) fun v26 S26 => X1_sortedIf_j32 G n this a1 a2 v1 S26)
noncomputable def X1_sortedIf (G : jG) (n : Nat) (σ : jH) (this : Nat) (a1 : Int32) (a2 : Int32) : Option (Int32 × jH) := jck σ (X1_sortedIf_b G n σ this a1 a2)
set_option maxHeartbeats 4000000 in
set_option maxRecDepth 100000 in
theorem ct_X1_sortedIf (l : Launch) (G : jG) (n : Nat) (σ : jH) (this : Nat) (a1 : Int32) (a2 : Int32) : jCt l G yX1_sortedIf (ws_ yX1_sortedIf cX1_sortedIf 5 (some .int)) 27 1358 jrI [.ref this, .int a1, .int a2] σ (X1_sortedIf G n σ this a1 a2) := by
  refine jCt.wr (lv := [(0, .ref this), (1, .int a1), (2, .int a2)]) (plainFor_of_name (by decide)) (Nat.le_of_ble_eq_true rfl) rfl ?_
  intro t p e s m args below meth c ls X hr hnm hl
  have X : jCx p c cX1_sortedIf 5 s m args RX1 G meth := X
  have j32 : ∀ (x3_32 : Option Nat) (B32 : jH) (ls : Array Slot), lv_has ls 5 [(2, .int a2), (3, va_rf x3_32)] → jGo l G 27 1358 σ (Prod.snd : Int32 × jH → jH) (fun t => jrI t.1) t p e s m args below meth c (X1_sortedIf_j32 G n this a1 a2 x3_32 B32) B32 (F0 m 32 ls []) := by
    intro x3_32 B32 ls hl
    unfold X1_sortedIf_j32
    refine J.pu (fun _ _ _ _ k => W.rload_n X.1.1 X.1.2.1 dX1_sortedIf_32 rfl (lv_at hl 1 rfl) k) ?_
    refine J.pu (fun _ _ _ _ k => lv_iload_n X.1.1 X.1.2.1 dX1_sortedIf_33 rfl (lv_at hl 0 rfl) k) ?_
    refine J.bind (fun o34 g34 => ?_)
    refine J.bd' (fun v34 S34 h34 => ?_)
    refine J.cV (q := (RX2, TX2, 9)) (ci := 1) (As := [.int a2]) (rest := []) (s2 := [.int v34]) X ⟨rfl, rfl⟩ (ct_X2_goes l G n B32 o34 a2) h34 (fun _ _ => cwV 1 X.1.2.2.2.2 (lw_V q2574 q2053 q2054 q139 q2055) rfl rfl rfl (by decide +kernel) ⟨(Nat.le_of_ble_eq_true rfl), (Nat.le_of_ble_eq_true rfl)⟩) g34 rfl rfl hl.1 rfl rfl (Nat.le_of_ble_eq_true rfl) dX1_sortedIf_34 ?_
    refine J.istore (lv' := [(4, .int v34), (2, .int a2), (3, va_rf x3_32)]) X.1.1 X.1.2.1 dX1_sortedIf_37 hl (by decide) (by first | rfl | simp [va_rf_cat, jcI, jcA, jcJ, jcD, jcF]) (fun ls hl => ?_)
    refine J.pu (fun _ _ _ _ k => W.rload_n X.1.1 X.1.2.1 dX1_sortedIf_39 rfl (lv_at hl 2 rfl) k) ?_
    refine J.getRN (k := 6) (ci := 1) X in_X2 (show jCl[1]? = some (RX2, TX2, 9) from rfl) (by decide) jnf12 (fun _ h => h) dX1_sortedIf_40 (fun v40 h40 => ?_)
    refine J.pu (fun _ _ _ _ k => lv_iconst (v := 2) X.1.1 X.1.2.1 dX1_sortedIf_43 (by decide) k) ?_
    refine J.aI0 X dX1_sortedIf_44 (fun v44 h44 => ?_)
    exact J.iret (vr := fun t : Int32 × jH => jrI t.1) (fin := Prod.snd) (t := t) X hr (by rfl) (by rfl) dX1_sortedIf_45
  unfold X1_sortedIf_b
  refine J.pu (fun _ _ _ _ k => lv_aload_n X.1.1 X.1.2.1 dX1_sortedIf_0 rfl (lv_at hl 0 rfl) k) ?_
  refine J.bind (fun o1 g1 => ?_)
  refine J.bd' (fun v1 S1 h1 => ?_)
  refine J.cV (q := (RX1, TX1, 9)) (ci := 0) (As := []) (rest := []) (s2 := [va_rf v1]) X ⟨rfl, rfl⟩ (ct_X1_think l G n σ o1) h1 (fun _ _ => cwV 0 X.1.2.2.2.2 (lw_V q2162 q2164 qs39 q138 q2165) rfl rfl rfl (by decide +kernel) ⟨(Nat.le_of_ble_eq_true rfl), (Nat.le_of_ble_eq_true rfl)⟩) g1 rfl rfl hl.1 rfl rfl (Nat.le_of_ble_eq_true rfl) dX1_sortedIf_1 ?_
  refine J.astore_n (r := v1) (i := 3) (lv' := [(3, va_rf v1), (0, .ref this), (1, .int a1), (2, .int a2)]) X.1.1 X.1.2.1 dX1_sortedIf_4 rfl hl (by decide) (by first | rfl | simp [va_rf_cat, jcI, jcA, jcJ, jcD, jcF]) (fun ls hl => ?_)
  refine J.pu (fun _ _ _ _ k => lv_iload_n X.1.1 X.1.2.1 dX1_sortedIf_5 rfl (lv_at hl 2 rfl) k) ?_
  refine J.pu (fun _ _ _ _ k => lv_iconst (v := (-1)) X.1.1 X.1.2.1 dX1_sortedIf_6 (by decide) k) ?_
  refine J.br (fun _ _ _ _ ka kb => lv_icmp_eq (tgt := 32) X.1.1 X.1.2.1 dX1_sortedIf_7 (by decide) ka kb) (fun c7 => ?_) (fun c7 => ?_)
  · exact j32 v1 S1 ls (lv_sub hl [3, 0] rfl)
  · refine J.pu (fun _ _ _ _ k => W.rload_n X.1.1 X.1.2.1 dX1_sortedIf_10 rfl (lv_at hl 0 rfl) k) ?_
    refine J.pu (fun _ _ _ _ k => W.rload_n X.1.1 X.1.2.1 dX1_sortedIf_11 rfl (lv_at hl 0 rfl) k) ?_
    refine J.pu (fun _ _ _ _ k => lv_iload_n X.1.1 X.1.2.1 dX1_sortedIf_12 rfl (lv_at hl 2 rfl) k) ?_
    refine J.bind (fun o13 g13 => ?_)
    refine J.bind (fun v13 h13 => ?_)
    refine J.cV (q := (RX2, TX2, 9)) (ci := 1) (As := [.int a1]) (rest := [va_rf v1]) (s2 := [va_rf v13, va_rf v1]) X ⟨rfl, rfl⟩ (ct_X2_chute l G n S1 o13 a1) (jrd_of h13) (fun _ _ => cwV 1 X.1.2.2.2.2 (lw_V q2185 q844 q845 q139 q846) rfl rfl rfl (by decide +kernel) ⟨(Nat.le_of_ble_eq_true rfl), (Nat.le_of_ble_eq_true rfl)⟩) g13 rfl rfl hl.1 rfl rfl (by simp [va_rf_cat, jcI, jcA, jcJ, jcD, jcF]) dX1_sortedIf_13 ?_
    refine J.bind (fun o16 g16 => ?_)
    refine J.bd' (fun v16 S16 h16 => ?_)
    refine J.cV (q := (RX2, TX2, 9)) (ci := 1) (As := [va_rf v13]) (rest := []) (s2 := [.int v16]) X ⟨rfl, rfl⟩ (ct_X2_empties l G n S1 o16 v13) h16 (fun _ _ => cwV 1 X.1.2.2.2.2 (lw_V q2603 q1972 q1973 q139 q1974) rfl rfl rfl (by decide +kernel) ⟨(Nat.le_of_ble_eq_true rfl), (Nat.le_of_ble_eq_true rfl)⟩) g16 rfl rfl hl.1 rfl rfl (Nat.le_of_ble_eq_true rfl) dX1_sortedIf_16 ?_
    refine J.pu (fun _ _ _ _ k => W.rload_n X.1.1 X.1.2.1 dX1_sortedIf_19 rfl (lv_at hl 0 rfl) k) ?_
    refine J.pu (fun _ _ _ _ k => W.rload_n X.1.1 X.1.2.1 dX1_sortedIf_20 rfl (lv_at hl 0 rfl) k) ?_
    refine J.pu (fun _ _ _ _ k => lv_iload_n X.1.1 X.1.2.1 dX1_sortedIf_21 rfl (lv_at hl 2 rfl) k) ?_
    refine J.bind (fun o22 g22 => ?_)
    refine J.bind (fun v22 h22 => ?_)
    refine J.cV (q := (RX2, TX2, 9)) (ci := 1) (As := [.int a1]) (rest := [va_rf v1, .int v16]) (s2 := [va_rf v22, va_rf v1, .int v16]) X ⟨rfl, rfl⟩ (ct_X2_chute l G n S16 o22 a1) (jrd_of h22) (fun _ _ => cwV 1 X.1.2.2.2.2 (lw_V q2185 q844 q845 q139 q846) rfl rfl rfl (by decide +kernel) ⟨(Nat.le_of_ble_eq_true rfl), (Nat.le_of_ble_eq_true rfl)⟩) g22 rfl rfl hl.1 rfl rfl (by simp [va_rf_cat, jcI, jcA, jcJ, jcD, jcF]) dX1_sortedIf_22 ?_
    refine J.pu (fun _ _ _ _ k => lv_iconst (v := 1) X.1.1 X.1.2.1 dX1_sortedIf_25 (by decide) k) ?_
    refine J.bind (fun o26 g26 => ?_)
    refine J.bd' (fun v26 S26 h26 => ?_)
    refine J.cV (q := (RX2, TX2, 9)) (ci := 1) (As := [va_rf v22, .int 1]) (rest := [.int v16]) (s2 := [.int v26, .int v16]) X ⟨rfl, rfl⟩ (ct_X2_opens l G n S16 o26 v22 1) h26 (fun _ _ => cwV 2 X.1.2.2.2.2 (lw_V q2604 q1989 q1990 q139 q1991) rfl rfl rfl (by decide +kernel) ⟨(Nat.le_of_ble_eq_true rfl), (Nat.le_of_ble_eq_true rfl)⟩) g26 rfl rfl hl.1 rfl rfl (Nat.le_of_ble_eq_true rfl) dX1_sortedIf_26 ?_
    refine J.pu (fun _ _ _ _ k => lv_iadd X.1.1 X.1.2.1 dX1_sortedIf_29 k) ?_
    refine J.istore (lv' := [(4, .int (v16 + v26)), (3, va_rf v1), (0, .ref this), (1, .int a1), (2, .int a2)]) X.1.1 X.1.2.1 dX1_sortedIf_30 hl (by decide) (by first | rfl | simp [va_rf_cat, jcI, jcA, jcJ, jcD, jcF]) (fun ls hl => ?_)
    exact j32 v1 S26 ls (lv_sub hl [4, 1] rfl)
noncomputable def X1_bestEmpty_j57 (G : jG) (n : Nat) (this : Nat) (a1 : Int32) (rec16 : Int32 × Int32 × Int32 × jH → Option (jTh Int32 × jH)) (x2_57 : Int32) (x3_57 : Int32) (x4_57 : Int32) (B57 : jH) : Option (jTh Int32 × jH) :=
  rec16 (x2_57, x3_57, (x4_57 + 1), B57)
noncomputable def X1_bestEmpty_h16 (G : jG) (n : Nat) (this : Nat) (a1 : Int32) (rec16 : Int32 × Int32 × Int32 × jH → Option (jTh Int32 × jH)) (q16 : Int32 × Int32 × Int32 × jH) : Option (jTh Int32 × jH) :=
  let x2_16 := q16.1; let x3_16 := q16.2.1; let x4_16 := q16.2.2.1; let B16 := q16.2.2.2; (gR B16 (some this) 0 4).bind fun v19 => (gR B16 v19 1 3).bind fun v22 => (rc B16 v22 15).bind fun o25 => (lSize 0 B16 o25).bind fun v25 => if v25 ≤ x4_16 then (some (.inl x2_16, B16)) else ((rc B16 (some this) 0).bind fun o37 => bd (X1_sortedIf G n B16 o37 x4_16 a1) fun v37 S37 => if x3_16 < v37 then (X1_bestEmpty_j57 G n this a1 rec16 x4_16 v37 x4_16 S37) else (X1_bestEmpty_j57 G n this a1 rec16 x2_16 x3_16 x4_16 S37))
noncomputable def X1_bestEmpty_b (G : jG) (n : Nat) (σ : jH) (this : Nat) (a1 : Int32) : Option (jTh Int32 × jH) :=
  tb (X1_checkTicks G n σ a1) fun v1 S1 => (rc S1 (some this) 0).bind fun o9 => bd (X1_sortedIf G n S1 o9 (-1) a1) fun v9 S9 => jloop (X1_bestEmpty_h16 G n this a1) n ((-1), v9, 0, S9)
noncomputable def X1_bestEmpty (G : jG) (n : Nat) (σ : jH) (this : Nat) (a1 : Int32) : Option (jTh Int32 × jH) := jck σ (X1_bestEmpty_b G n σ this a1)
set_option maxHeartbeats 4000000 in
set_option maxRecDepth 100000 in
theorem ct_X1_bestEmpty (l : Launch) (hfl : l.stackTraces = false) (G : jG) (n : Nat) (σ : jH) (this : Nat) (a1 : Int32) : jTt l G yX1_bestEmpty (ws_ yX1_bestEmpty cX1_bestEmpty 6 (some .int)) 28 1382 jrI [.ref this, .int a1] σ (X1_bestEmpty G n σ this a1) := by
  refine jTt.wr (lv := [(0, .ref this), (1, .int a1)]) rfl (Nat.le_of_ble_eq_true rfl) rfl ?_
  intro t p e s m args below meth c ls X hr hnm hout hl
  have X : jCx p c cX1_bestEmpty 6 s m args RX1 G meth := X
  have L16 : ∀ (n16 : Nat) (x2_16 : Int32) (x3_16 : Int32) (x4_16 : Int32) (B16 : jH) (ls : Array Slot), lv_has ls 6 [(0, .ref this), (1, .int a1), (2, .int x2_16), (3, .int x3_16), (4, .int x4_16)] → jGoT l G 28 1382 σ jrI t p e s m args below meth c (jloop (X1_bestEmpty_h16 G n this a1) n16 (x2_16, x3_16, x4_16, B16)) B16 (F0 m 16 ls []) := by
    intro n16
    induction n16 with
    | zero => intro x2_16 x3_16 x4_16 B16 ls hl; exact J.nil_
    | succ n16 ih16 =>
      have j57 : ∀ (x2_57 : Int32) (x3_57 : Int32) (x4_57 : Int32) (B57 : jH) (ls : Array Slot), lv_has ls 6 [(0, .ref this), (1, .int a1), (2, .int x2_57), (3, .int x3_57), (4, .int x4_57)] → jGoT l G 28 1382 σ jrI t p e s m args below meth c (X1_bestEmpty_j57 G n this a1 (jloop (X1_bestEmpty_h16 G n this a1) n16) x2_57 x3_57 x4_57 B57) B57 (F0 m 57 ls []) := by
        intro x2_57 x3_57 x4_57 B57 ls hl
        unfold X1_bestEmpty_j57
        refine J.iinc (k := 4) (lv' := [(4, .int (x4_57 + 1)), (0, .ref this), (1, .int a1), (2, .int x2_57), (3, .int x3_57)]) (w := (x4_57 + 1)) X.1.1 X.1.2.1 dX1_bestEmpty_57 hl rfl rfl (by decide) (by first | rfl | simp [va_rf_cat, jcI, jcA, jcJ, jcD, jcF]) (fun ls hl => ?_)
        refine J.pu (fun _ _ _ _ k => lv_goto (tgt := 16) X.1.1 X.1.2.1 dX1_bestEmpty_60 (by decide) k) ?_
        exact ih16 x2_57 x3_57 (x4_57 + 1) B57 ls (lv_sub hl [1, 2, 3, 4, 0] rfl)
      intro x2_16 x3_16 x4_16 B16 ls hl
      refine J.eq (jloop_s _ _ _) ?_
      dsimp only [X1_bestEmpty_h16]
      refine J.pu (fun _ _ _ _ k => lv_iload X.1.1 X.1.2.1 dX1_bestEmpty_16 (lv_at hl 4 rfl) k) ?_
      refine J.pu (fun _ _ _ _ k => lv_aload_n X.1.1 X.1.2.1 dX1_bestEmpty_18 rfl (lv_at hl 0 rfl) k) ?_
      refine J.getR (k := 4) (ci := 0) X in_X1 (show jCl[0]? = some (RX1, TX1, 9) from rfl) (by decide) q1329 (fun _ h => h) dX1_bestEmpty_19 (fun v19 h19 => ?_)
      refine J.getRN (k := 3) (ci := 1) X in_X2 (show jCl[1]? = some (RX2, TX2, 9) from rfl) (by decide) jnf8 (fun _ h => h) dX1_bestEmpty_22 (fun v22 h22 => ?_)
      refine J.bind (fun o25 g25 => ?_)
      refine J.bind (fun v25 h25 => ?_)
      refine J.cF (q := (RJ2, TJ2, 3)) (ci := 15) (As := []) (rest := [.int x4_16]) (s2 := [.int v25, .int x4_16]) X ⟨rfl, rfl⟩ (ct_J2_size l G B16 o25) (jrd_of h25) (fun _ _ => va_cwF 0 X.1.2.2.2.2 (lw_F q1751 q832 q834 q142 q836) rfl rfl rfl (jfw2 X.2.1) (by decide +kernel) ⟨(Nat.le_of_ble_eq_true rfl), (Nat.le_of_ble_eq_true rfl)⟩) g25 rfl rfl hl.1 rfl rfl (Nat.le_of_ble_eq_true rfl) dX1_bestEmpty_25 ?_
      refine J.br (fun _ _ _ _ ka kb => lv_icmp_ge (tgt := 63) X.1.1 X.1.2.1 dX1_bestEmpty_30 (by decide) ka kb) (fun c30 => ?_) (fun c30 => ?_)
      · refine J.pu (fun _ _ _ _ k => lv_iload_n X.1.1 X.1.2.1 dX1_bestEmpty_63 rfl (lv_at hl 2 rfl) k) ?_
        exact J.tret (J.iret (vr := fun t : Int32 × jH => jrI t.1) (fin := (Prod.snd : Int32 × jH → jH)) (t := (x2_16, B16)) X hr (by rfl) (by rfl) dX1_bestEmpty_64)
      · refine J.pu (fun _ _ _ _ k => lv_aload_n X.1.1 X.1.2.1 dX1_bestEmpty_33 rfl (lv_at hl 0 rfl) k) ?_
        refine J.pu (fun _ _ _ _ k => lv_iload X.1.1 X.1.2.1 dX1_bestEmpty_34 (lv_at hl 4 rfl) k) ?_
        refine J.pu (fun _ _ _ _ k => lv_iload_n X.1.1 X.1.2.1 dX1_bestEmpty_36 rfl (lv_at hl 1 rfl) k) ?_
        refine J.bind (fun o37 g37 => ?_)
        refine J.bd' (fun v37 S37 h37 => ?_)
        refine J.cV (q := (RX1, TX1, 9)) (ci := 0) (As := [.int x4_16, .int a1]) (rest := []) (s2 := [.int v37]) X ⟨rfl, rfl⟩ (ct_X1_sortedIf l G n B16 o37 x4_16 a1) h37 (fun _ _ => cwV 2 X.1.2.2.2.2 (lw_V q2599 q2601 qs55 q138 q2602) rfl rfl rfl (by decide +kernel) ⟨(Nat.le_of_ble_eq_true rfl), (Nat.le_of_ble_eq_true rfl)⟩) g37 rfl rfl hl.1 rfl rfl (Nat.le_of_ble_eq_true rfl) dX1_bestEmpty_37 ?_
        refine J.istore (lv' := [(5, .int v37), (0, .ref this), (1, .int a1), (2, .int x2_16), (3, .int x3_16), (4, .int x4_16)]) X.1.1 X.1.2.1 dX1_bestEmpty_40 hl (by decide) (by first | rfl | simp [va_rf_cat, jcI, jcA, jcJ, jcD, jcF]) (fun ls hl => ?_)
        refine J.pu (fun _ _ _ _ k => lv_iload X.1.1 X.1.2.1 dX1_bestEmpty_42 (lv_at hl 0 rfl) k) ?_
        refine J.pu (fun _ _ _ _ k => lv_iload_n X.1.1 X.1.2.1 dX1_bestEmpty_44 rfl (lv_at hl 4 rfl) k) ?_
        refine J.br (fun _ _ _ _ ka kb => lv_icmp_gt (tgt := 51) X.1.1 X.1.2.1 dX1_bestEmpty_45 (by decide) ka kb) (fun c45 => ?_) (fun c45 => ?_)
        · refine J.pu (fun _ _ _ _ k => lv_iload X.1.1 X.1.2.1 dX1_bestEmpty_51 (lv_at hl 5 rfl) k) ?_
          refine J.istore_n (i := 2) (lv' := [(2, .int x4_16), (5, .int v37), (0, .ref this), (1, .int a1), (3, .int x3_16), (4, .int x4_16)]) X.1.1 X.1.2.1 dX1_bestEmpty_53 rfl hl (by decide) (by first | rfl | simp [va_rf_cat, jcI, jcA, jcJ, jcD, jcF]) (fun ls hl => ?_)
          refine J.pu (fun _ _ _ _ k => lv_iload X.1.1 X.1.2.1 dX1_bestEmpty_54 (lv_at hl 1 rfl) k) ?_
          refine J.istore_n (i := 3) (lv' := [(3, .int v37), (2, .int x4_16), (5, .int v37), (0, .ref this), (1, .int a1), (4, .int x4_16)]) X.1.1 X.1.2.1 dX1_bestEmpty_56 rfl hl (by decide) (by first | rfl | simp [va_rf_cat, jcI, jcA, jcJ, jcD, jcF]) (fun ls hl => ?_)
          exact j57 x4_16 v37 x4_16 S37 ls (lv_sub hl [3, 4, 1, 0, 5] rfl)
        · refine J.pu (fun _ _ _ _ k => lv_goto (tgt := 57) X.1.1 X.1.2.1 dX1_bestEmpty_48 (by decide) k) ?_
          exact j57 x2_16 x3_16 x4_16 S37 ls (lv_sub hl [1, 2, 3, 4, 5] rfl)
  unfold X1_bestEmpty_b
  refine J.pu (fun _ _ _ _ k => lv_iload_n X.1.1 X.1.2.1 dX1_bestEmpty_0 rfl (lv_at hl 1 rfl) k) ?_
  refine J.tS (As := [.int a1]) (rest := []) X hout ⟨rfl, rfl⟩ (ct_X1_checkTicks l hfl G n σ a1) (fun _ _ => va_cwS 1 X.1.2.2.2.2 (lw_S q2570 q2571 q138 q2572) rfl rfl rfl (by decide +kernel) ⟨(Nat.le_of_ble_eq_true rfl), (Nat.le_of_ble_eq_true rfl)⟩) rfl hl.1 rfl (Nat.le_of_ble_eq_true rfl) dX1_bestEmpty_1 (fun v1 S1 h1 => ?_)
  refine J.geq (g2 := F0 m 4 ls []) rfl ?_
  refine J.pu (fun _ _ _ _ k => lv_iconst (v := (-1)) X.1.1 X.1.2.1 dX1_bestEmpty_4 (by decide) k) ?_
  refine J.istore_n (i := 2) (lv' := [(2, .int (-1)), (0, .ref this), (1, .int a1)]) X.1.1 X.1.2.1 dX1_bestEmpty_5 rfl hl (by decide) (by first | rfl | simp [va_rf_cat, jcI, jcA, jcJ, jcD, jcF]) (fun ls hl => ?_)
  refine J.pu (fun _ _ _ _ k => lv_aload_n X.1.1 X.1.2.1 dX1_bestEmpty_6 rfl (lv_at hl 1 rfl) k) ?_
  refine J.pu (fun _ _ _ _ k => lv_iconst (v := (-1)) X.1.1 X.1.2.1 dX1_bestEmpty_7 (by decide) k) ?_
  refine J.pu (fun _ _ _ _ k => lv_iload_n X.1.1 X.1.2.1 dX1_bestEmpty_8 rfl (lv_at hl 2 rfl) k) ?_
  refine J.bind (fun o9 g9 => ?_)
  refine J.bd' (fun v9 S9 h9 => ?_)
  refine J.cV (q := (RX1, TX1, 9)) (ci := 0) (As := [.int (-1), .int a1]) (rest := []) (s2 := [.int v9]) X ⟨rfl, rfl⟩ (ct_X1_sortedIf l G n S1 o9 (-1) a1) h9 (fun _ _ => cwV 2 X.1.2.2.2.2 (lw_V q2599 q2601 qs55 q138 q2602) rfl rfl rfl (by decide +kernel) ⟨(Nat.le_of_ble_eq_true rfl), (Nat.le_of_ble_eq_true rfl)⟩) g9 rfl rfl hl.1 rfl rfl (Nat.le_of_ble_eq_true rfl) dX1_bestEmpty_9 ?_
  refine J.istore_n (i := 3) (lv' := [(3, .int v9), (2, .int (-1)), (0, .ref this), (1, .int a1)]) X.1.1 X.1.2.1 dX1_bestEmpty_12 rfl hl (by decide) (by first | rfl | simp [va_rf_cat, jcI, jcA, jcJ, jcD, jcF]) (fun ls hl => ?_)
  refine J.pu (fun _ _ _ _ k => lv_iconst (v := 0) X.1.1 X.1.2.1 dX1_bestEmpty_13 (by decide) k) ?_
  refine J.istore (lv' := [(4, .int 0), (3, .int v9), (2, .int (-1)), (0, .ref this), (1, .int a1)]) X.1.1 X.1.2.1 dX1_bestEmpty_14 hl (by decide) (by first | rfl | simp [va_rf_cat, jcI, jcA, jcJ, jcD, jcF]) (fun ls hl => ?_)
  exact L16 n (-1) v9 0 S9 ls (lv_sub hl [3, 4, 2, 1, 0] rfl)
noncomputable def X1_missortsIf_j36 (G : jG) (n : Nat) (this : Nat) (a1 : Int32) (a2 : Int32) (a3 : Int32) (s0_36 : Int32) (B36 : jH) : Option (jTh Int32 × jH) :=
  tb (X1_checkArgument G n B36 s0_36) fun v36 S36 => (rc S36 (some this) 0).bind fun o40 => bd (X1_think G n S36 o40) fun v40 S40 => (rc S40 v40 1).bind fun o49 => bd (X2_sets G n S40 o49 a1 a2) fun v49 S49 => (rc S49 v40 1).bind fun o57 => bd (X2_goes G n S49 o57 a3) fun v57 S57 => (gR S57 v40 1 6).bind fun v64 => (aI S57 v64 0 3).bind fun v68 => (gR S57 (some this) 0 4).bind fun v70 => (gR S57 v70 1 6).bind fun v73 => (aI S57 v73 0 3).bind fun v77 => some (.inl (v68 - v77), S57)
noncomputable def X1_missortsIf_j35 (G : jG) (n : Nat) (this : Nat) (a1 : Int32) (a2 : Int32) (a3 : Int32) (B35 : jH) : Option (jTh Int32 × jH) :=
  X1_missortsIf_j36 G n this a1 a2 a3 0 B35
noncomputable def X1_missortsIf_b (G : jG) (n : Nat) (σ : jH) (this : Nat) (a1 : Int32) (a2 : Int32) (a3 : Int32) : Option (jTh Int32 × jH) :=
  (rc σ (some this) 0).bind fun o2 => tb (X1_chuteAt G n σ o2 a1) fun v2 S2 => (X1_isIn G n S2 a2.toInt64 0 3).bind fun v13 => if v13 = 0 then (X1_missortsIf_j35 G n this a1 a2 a3 S2) else ((X1_isIn G n S2 a3.toInt64 0 500).bind fun v25 => if v25 = 0 then (X1_missortsIf_j35 G n this a1 a2 a3 S2) else (X1_missortsIf_j36 G n this a1 a2 a3 1 S2))
noncomputable def X1_missortsIf (G : jG) (n : Nat) (σ : jH) (this : Nat) (a1 : Int32) (a2 : Int32) (a3 : Int32) : Option (jTh Int32 × jH) := jck σ (X1_missortsIf_b G n σ this a1 a2 a3)
set_option maxHeartbeats 4000000 in
set_option maxRecDepth 100000 in
theorem ct_X1_missortsIf (l : Launch) (hfl : l.stackTraces = false) (G : jG) (n : Nat) (σ : jH) (this : Nat) (a1 : Int32) (a2 : Int32) (a3 : Int32) : jTt l G yX1_missortsIf (ws_ yX1_missortsIf cX1_missortsIf 8 (some .int)) 27 1358 jrI [.ref this, .int a1, .int a2, .int a3] σ (X1_missortsIf G n σ this a1 a2 a3) := by
  refine jTt.wr (lv := [(0, .ref this), (1, .int a1), (2, .int a2), (3, .int a3)]) rfl (Nat.le_of_ble_eq_true rfl) rfl ?_
  intro t p e s m args below meth c ls X hr hnm hout hl
  have X : jCx p c cX1_missortsIf 8 s m args RX1 G meth := X
  have j36 : ∀ (s0_36 : Int32) (B36 : jH) (ls : Array Slot), lv_has ls 8 [(0, .ref this), (1, .int a1), (2, .int a2), (3, .int a3)] → jGoT l G 27 1358 σ jrI t p e s m args below meth c (X1_missortsIf_j36 G n this a1 a2 a3 s0_36 B36) B36 (F0 m 36 ls [.int s0_36]) := by
    intro s0_36 B36 ls hl
    unfold X1_missortsIf_j36
    refine J.tS (As := [.int s0_36]) (rest := []) X hout ⟨rfl, rfl⟩ (ct_X1_checkArgument l hfl G n B36 s0_36) (fun _ _ => va_cwS 1 X.1.2.2.2.2 (lw_S q2414 q2415 q138 q2416) rfl rfl rfl (by decide +kernel) ⟨(Nat.le_of_ble_eq_true rfl), (Nat.le_of_ble_eq_true rfl)⟩) rfl hl.1 rfl (Nat.le_of_ble_eq_true rfl) dX1_missortsIf_36 (fun v36 S36 h36 => ?_)
    refine J.geq (g2 := F0 m 39 ls []) rfl ?_
    refine J.pu (fun _ _ _ _ k => lv_aload_n X.1.1 X.1.2.1 dX1_missortsIf_39 rfl (lv_at hl 0 rfl) k) ?_
    refine J.bind (fun o40 g40 => ?_)
    refine J.bd' (fun v40 S40 h40 => ?_)
    refine J.cV (q := (RX1, TX1, 9)) (ci := 0) (As := []) (rest := []) (s2 := [va_rf v40]) X ⟨rfl, rfl⟩ (ct_X1_think l G n S36 o40) h40 (fun _ _ => cwV 0 X.1.2.2.2.2 (lw_V q2162 q2164 qs39 q138 q2165) rfl rfl rfl (by decide +kernel) ⟨(Nat.le_of_ble_eq_true rfl), (Nat.le_of_ble_eq_true rfl)⟩) g40 rfl rfl hl.1 rfl rfl (Nat.le_of_ble_eq_true rfl) dX1_missortsIf_40 ?_
    refine J.astore (r := v40) (lv' := [(5, va_rf v40), (0, .ref this), (1, .int a1), (2, .int a2), (3, .int a3)]) X.1.1 X.1.2.1 dX1_missortsIf_43 hl (by decide) (by first | rfl | simp [va_rf_cat, jcI, jcA, jcJ, jcD, jcF]) (fun ls hl => ?_)
    refine J.pu (fun _ _ _ _ k => W.rload X.1.1 X.1.2.1 dX1_missortsIf_45 (lv_at hl 0 rfl) k) ?_
    refine J.pu (fun _ _ _ _ k => lv_iload_n X.1.1 X.1.2.1 dX1_missortsIf_47 rfl (lv_at hl 2 rfl) k) ?_
    refine J.pu (fun _ _ _ _ k => lv_iload_n X.1.1 X.1.2.1 dX1_missortsIf_48 rfl (lv_at hl 3 rfl) k) ?_
    refine J.bind (fun o49 g49 => ?_)
    refine J.bd' (fun v49 S49 h49 => ?_)
    refine J.cV (q := (RX2, TX2, 9)) (ci := 1) (As := [.int a1, .int a2]) (rest := []) (s2 := [.int v49]) X ⟨rfl, rfl⟩ (ct_X2_sets l G n S40 o49 a1 a2) h49 (fun _ _ => cwV 2 X.1.2.2.2.2 (lw_V q2620 q2026 q2027 q139 q2028) rfl rfl rfl (by decide +kernel) ⟨(Nat.le_of_ble_eq_true rfl), (Nat.le_of_ble_eq_true rfl)⟩) g49 rfl rfl hl.1 rfl rfl (Nat.le_of_ble_eq_true rfl) dX1_missortsIf_49 ?_
    refine J.istore (lv' := [(6, .int v49), (5, va_rf v40), (0, .ref this), (1, .int a1), (2, .int a2), (3, .int a3)]) X.1.1 X.1.2.1 dX1_missortsIf_52 hl (by decide) (by first | rfl | simp [va_rf_cat, jcI, jcA, jcJ, jcD, jcF]) (fun ls hl => ?_)
    refine J.pu (fun _ _ _ _ k => W.rload X.1.1 X.1.2.1 dX1_missortsIf_54 (lv_at hl 1 rfl) k) ?_
    refine J.pu (fun _ _ _ _ k => lv_iload_n X.1.1 X.1.2.1 dX1_missortsIf_56 rfl (lv_at hl 5 rfl) k) ?_
    refine J.bind (fun o57 g57 => ?_)
    refine J.bd' (fun v57 S57 h57 => ?_)
    refine J.cV (q := (RX2, TX2, 9)) (ci := 1) (As := [.int a3]) (rest := []) (s2 := [.int v57]) X ⟨rfl, rfl⟩ (ct_X2_goes l G n S49 o57 a3) h57 (fun _ _ => cwV 1 X.1.2.2.2.2 (lw_V q2574 q2053 q2054 q139 q2055) rfl rfl rfl (by decide +kernel) ⟨(Nat.le_of_ble_eq_true rfl), (Nat.le_of_ble_eq_true rfl)⟩) g57 rfl rfl hl.1 rfl rfl (Nat.le_of_ble_eq_true rfl) dX1_missortsIf_57 ?_
    refine J.istore (lv' := [(7, .int v57), (6, .int v49), (5, va_rf v40), (0, .ref this), (1, .int a1), (2, .int a2), (3, .int a3)]) X.1.1 X.1.2.1 dX1_missortsIf_60 hl (by decide) (by first | rfl | simp [va_rf_cat, jcI, jcA, jcJ, jcD, jcF]) (fun ls hl => ?_)
    refine J.pu (fun _ _ _ _ k => W.rload X.1.1 X.1.2.1 dX1_missortsIf_62 (lv_at hl 2 rfl) k) ?_
    refine J.getRN (k := 6) (ci := 1) X in_X2 (show jCl[1]? = some (RX2, TX2, 9) from rfl) (by decide) jnf12 (fun _ h => h) dX1_missortsIf_64 (fun v64 h64 => ?_)
    refine J.pu (fun _ _ _ _ k => lv_iconst (v := 3) X.1.1 X.1.2.1 dX1_missortsIf_67 (by decide) k) ?_
    refine J.aI0 X dX1_missortsIf_68 (fun v68 h68 => ?_)
    refine J.pu (fun _ _ _ _ k => lv_aload_n X.1.1 X.1.2.1 dX1_missortsIf_69 rfl (lv_at hl 3 rfl) k) ?_
    refine J.getR (k := 4) (ci := 0) X in_X1 (show jCl[0]? = some (RX1, TX1, 9) from rfl) (by decide) q1329 (fun _ h => h) dX1_missortsIf_70 (fun v70 h70 => ?_)
    refine J.getRN (k := 6) (ci := 1) X in_X2 (show jCl[1]? = some (RX2, TX2, 9) from rfl) (by decide) jnf12 (fun _ h => h) dX1_missortsIf_73 (fun v73 h73 => ?_)
    refine J.pu (fun _ _ _ _ k => lv_iconst (v := 3) X.1.1 X.1.2.1 dX1_missortsIf_76 (by decide) k) ?_
    refine J.aI0 X dX1_missortsIf_77 (fun v77 h77 => ?_)
    refine J.pu (fun _ _ _ _ k => lv_isub X.1.1 X.1.2.1 dX1_missortsIf_78 k) ?_
    exact J.tret (J.iret (vr := fun t : Int32 × jH => jrI t.1) (fin := (Prod.snd : Int32 × jH → jH)) (t := ((v68 - v77), S57)) X hr (by rfl) (by rfl) dX1_missortsIf_79)
  have j35 : ∀ (B35 : jH) (ls : Array Slot), lv_has ls 8 [(0, .ref this), (1, .int a1), (2, .int a2), (3, .int a3)] → jGoT l G 27 1358 σ jrI t p e s m args below meth c (X1_missortsIf_j35 G n this a1 a2 a3 B35) B35 (F0 m 35 ls []) := by
    intro B35 ls hl
    unfold X1_missortsIf_j35
    refine J.pu (fun _ _ _ _ k => lv_iconst (v := 0) X.1.1 X.1.2.1 dX1_missortsIf_35 (by decide) k) ?_
    exact j36 0 B35 ls (lv_sub hl [0, 1, 2, 3] rfl)
  unfold X1_missortsIf_b
  refine J.pu (fun _ _ _ _ k => lv_aload_n X.1.1 X.1.2.1 dX1_missortsIf_0 rfl (lv_at hl 0 rfl) k) ?_
  refine J.pu (fun _ _ _ _ k => lv_iload_n X.1.1 X.1.2.1 dX1_missortsIf_1 rfl (lv_at hl 1 rfl) k) ?_
  refine J.bind (fun o2 g2 => ?_)
  refine J.tV (q := (RX1, TX1, 9)) (ci := 0) (As := [.int a1]) (rest := []) X hout ⟨rfl, rfl⟩ (ct_X1_chuteAt l hfl G n σ o2 a1) (fun _ _ => cwV 1 X.1.2.2.2.2 (lw_V q2465 q2467 qs48 q138 q2468) rfl rfl rfl (by decide +kernel) ⟨(Nat.le_of_ble_eq_true rfl), (Nat.le_of_ble_eq_true rfl)⟩) g2 rfl rfl hl.1 rfl (Nat.le_of_ble_eq_true rfl) dX1_missortsIf_2 (fun v2 S2 h2 => ?_)
  refine J.geq (g2 := F0 m 5 ls [va_rf v2]) rfl ?_
  refine J.astore (r := v2) (lv' := [(4, va_rf v2), (0, .ref this), (1, .int a1), (2, .int a2), (3, .int a3)]) X.1.1 X.1.2.1 dX1_missortsIf_5 hl (by decide) (by first | rfl | simp [va_rf_cat, jcI, jcA, jcJ, jcD, jcF]) (fun ls hl => ?_)
  refine J.pu (fun _ _ _ _ k => lv_iload_n X.1.1 X.1.2.1 dX1_missortsIf_7 rfl (lv_at hl 3 rfl) k) ?_
  refine J.pu (fun _ _ _ _ k => lv_i2l (v := a2.toInt64) X.1.1 X.1.2.1 dX1_missortsIf_8 rfl k) ?_
  refine J.pu (fun _ _ _ _ k => lv_lconst (v := 0) X.1.1 X.1.2.1 dX1_missortsIf_9 (by decide) k) ?_
  refine J.pu (fun _ _ _ _ k => lv_ldc2 (v := 3) X.1.1 X.1.2.1 X.1.2.2.2.1 (X.1.2.2.2.2 _ q2619) dX1_missortsIf_10 k) ?_
  refine J.bind (fun v13 h13 => ?_)
  refine J.cS (As := [.long a2.toInt64, .long 0, .long 3]) (rest := []) (s2 := [.int v13]) X ⟨rfl, rfl⟩ (ct_X1_isIn l G n S2 a2.toInt64 0 3) (jrd_of h13) (fun _ _ => va_cwS 3 X.1.2.2.2.2 (lw_S q1365 q1366 q138 q1367) rfl rfl rfl (by decide +kernel) ⟨(Nat.le_of_ble_eq_true rfl), (Nat.le_of_ble_eq_true rfl)⟩) rfl hl.1 rfl rfl (Nat.le_of_ble_eq_true rfl) dX1_missortsIf_13 ?_
  refine J.br (fun _ _ _ _ ka kb => lv_if_eq (tgt := 35) X.1.1 X.1.2.1 dX1_missortsIf_16 (by decide) ka kb) (fun c16 => ?_) (fun c16 => ?_)
  · exact j35 S2 ls (lv_sub hl [1, 2, 3, 4] rfl)
  · refine J.pu (fun _ _ _ _ k => lv_iload_n X.1.1 X.1.2.1 dX1_missortsIf_19 rfl (lv_at hl 4 rfl) k) ?_
    refine J.pu (fun _ _ _ _ k => lv_i2l (v := a3.toInt64) X.1.1 X.1.2.1 dX1_missortsIf_20 rfl k) ?_
    refine J.pu (fun _ _ _ _ k => lv_lconst (v := 0) X.1.1 X.1.2.1 dX1_missortsIf_21 (by decide) k) ?_
    refine J.pu (fun _ _ _ _ k => lv_ldc2 (v := 500) X.1.1 X.1.2.1 X.1.2.2.2.1 (X.1.2.2.2.2 _ q2573) dX1_missortsIf_22 k) ?_
    refine J.bind (fun v25 h25 => ?_)
    refine J.cS (As := [.long a3.toInt64, .long 0, .long 500]) (rest := []) (s2 := [.int v25]) X ⟨rfl, rfl⟩ (ct_X1_isIn l G n S2 a3.toInt64 0 500) (jrd_of h25) (fun _ _ => va_cwS 3 X.1.2.2.2.2 (lw_S q1365 q1366 q138 q1367) rfl rfl rfl (by decide +kernel) ⟨(Nat.le_of_ble_eq_true rfl), (Nat.le_of_ble_eq_true rfl)⟩) rfl hl.1 rfl rfl (Nat.le_of_ble_eq_true rfl) dX1_missortsIf_25 ?_
    refine J.br (fun _ _ _ _ ka kb => lv_if_eq (tgt := 35) X.1.1 X.1.2.1 dX1_missortsIf_28 (by decide) ka kb) (fun c28 => ?_) (fun c28 => ?_)
    · exact j35 S2 ls (lv_sub hl [1, 2, 3, 4] rfl)
    · refine J.pu (fun _ _ _ _ k => lv_iconst (v := 1) X.1.1 X.1.2.1 dX1_missortsIf_31 (by decide) k) ?_
      refine J.pu (fun _ _ _ _ k => lv_goto (tgt := 36) X.1.1 X.1.2.1 dX1_missortsIf_32 (by decide) k) ?_
      exact j36 1 S2 ls (lv_sub hl [1, 2, 3, 4] rfl)
noncomputable def X1_tick_j32 (G : jG) (n : Nat) (this : Nat) (a1 : Int32) (s0_32 : Int32) (B32 : jH) : Option (jTh Int32 × jH) :=
  tb (X1_checkState G n B32 s0_32) fun v32 S32 => (rc S32 (some this) 0).bind fun o36 => bd (X1_changed G n S32 o36) fun v36 S36 => (rc S36 v36 1).bind fun o40 => bd (X2_goes G n S36 o40 a1) fun v40 S40 => some (.inl v40, S40)
noncomputable def X1_tick_b (G : jG) (n : Nat) (σ : jH) (this : Nat) (a1 : Int32) : Option (jTh Int32 × jH) :=
  (X1_isIn G n σ a1.toInt64 1 500).bind fun v6 => tb (X1_checkArgument G n σ v6) fun v9 S9 => (gR S9 (some this) 0 4).bind fun v13 => (gI S9 v13 1 7).bind fun v16 => if 9999 < (v16 + a1) then (X1_tick_j32 G n this a1 0 S9) else (X1_tick_j32 G n this a1 1 S9)
noncomputable def X1_tick (G : jG) (n : Nat) (σ : jH) (this : Nat) (a1 : Int32) : Option (jTh Int32 × jH) := jck σ (X1_tick_b G n σ this a1)
set_option maxHeartbeats 4000000 in
set_option maxRecDepth 100000 in
theorem ct_X1_tick (l : Launch) (hfl : l.stackTraces = false) (G : jG) (n : Nat) (σ : jH) (this : Nat) (a1 : Int32) : jTt l G yX1_tick (ws_ yX1_tick cX1_tick 2 (some .int)) 27 1358 jrI [.ref this, .int a1] σ (X1_tick G n σ this a1) := by
  refine jTt.wr (lv := [(0, .ref this), (1, .int a1)]) rfl (Nat.le_of_ble_eq_true rfl) rfl ?_
  intro t p e s m args below meth c ls X hr hnm hout hl
  have X : jCx p c cX1_tick 2 s m args RX1 G meth := X
  have j32 : ∀ (s0_32 : Int32) (B32 : jH) (ls : Array Slot), lv_has ls 2 [(0, .ref this), (1, .int a1)] → jGoT l G 27 1358 σ jrI t p e s m args below meth c (X1_tick_j32 G n this a1 s0_32 B32) B32 (F0 m 32 ls [.int s0_32]) := by
    intro s0_32 B32 ls hl
    unfold X1_tick_j32
    refine J.tS (As := [.int s0_32]) (rest := []) X hout ⟨rfl, rfl⟩ (ct_X1_checkState l hfl G n B32 s0_32) (fun _ _ => va_cwS 1 X.1.2.2.2.2 (lw_S q2630 q2631 q138 q2632) rfl rfl rfl (by decide +kernel) ⟨(Nat.le_of_ble_eq_true rfl), (Nat.le_of_ble_eq_true rfl)⟩) rfl hl.1 rfl (Nat.le_of_ble_eq_true rfl) dX1_tick_32 (fun v32 S32 h32 => ?_)
    refine J.geq (g2 := F0 m 35 ls []) rfl ?_
    refine J.pu (fun _ _ _ _ k => lv_aload_n X.1.1 X.1.2.1 dX1_tick_35 rfl (lv_at hl 0 rfl) k) ?_
    refine J.bind (fun o36 g36 => ?_)
    refine J.bd' (fun v36 S36 h36 => ?_)
    refine J.cV (q := (RX1, TX1, 9)) (ci := 0) (As := []) (rest := []) (s2 := [va_rf v36]) X ⟨rfl, rfl⟩ (ct_X1_changed l G n S32 o36) h36 (fun _ _ => cwV 0 X.1.2.2.2.2 (lw_V q1902 q1904 qs29 q138 q1905) rfl rfl rfl (by decide +kernel) ⟨(Nat.le_of_ble_eq_true rfl), (Nat.le_of_ble_eq_true rfl)⟩) g36 rfl rfl hl.1 rfl rfl (Nat.le_of_ble_eq_true rfl) dX1_tick_36 ?_
    refine J.pu (fun _ _ _ _ k => lv_iload_n X.1.1 X.1.2.1 dX1_tick_39 rfl (lv_at hl 1 rfl) k) ?_
    refine J.bind (fun o40 g40 => ?_)
    refine J.bd' (fun v40 S40 h40 => ?_)
    refine J.cV (q := (RX2, TX2, 9)) (ci := 1) (As := [.int a1]) (rest := []) (s2 := [.int v40]) X ⟨rfl, rfl⟩ (ct_X2_goes l G n S36 o40 a1) h40 (fun _ _ => cwV 1 X.1.2.2.2.2 (lw_V q2574 q2053 q2054 q139 q2055) rfl rfl rfl (by decide +kernel) ⟨(Nat.le_of_ble_eq_true rfl), (Nat.le_of_ble_eq_true rfl)⟩) g40 rfl rfl hl.1 rfl rfl (Nat.le_of_ble_eq_true rfl) dX1_tick_40 ?_
    exact J.tret (J.iret (vr := fun t : Int32 × jH => jrI t.1) (fin := (Prod.snd : Int32 × jH → jH)) (t := (v40, S40)) X hr (by rfl) (by rfl) dX1_tick_43)
  unfold X1_tick_b
  refine J.pu (fun _ _ _ _ k => lv_iload_n X.1.1 X.1.2.1 dX1_tick_0 rfl (lv_at hl 1 rfl) k) ?_
  refine J.pu (fun _ _ _ _ k => lv_i2l (v := a1.toInt64) X.1.1 X.1.2.1 dX1_tick_1 rfl k) ?_
  refine J.pu (fun _ _ _ _ k => lv_lconst (v := 1) X.1.1 X.1.2.1 dX1_tick_2 (by decide) k) ?_
  refine J.pu (fun _ _ _ _ k => lv_ldc2 (v := 500) X.1.1 X.1.2.1 X.1.2.2.2.1 (X.1.2.2.2.2 _ q2573) dX1_tick_3 k) ?_
  refine J.bind (fun v6 h6 => ?_)
  refine J.cS (As := [.long a1.toInt64, .long 1, .long 500]) (rest := []) (s2 := [.int v6]) X ⟨rfl, rfl⟩ (ct_X1_isIn l G n σ a1.toInt64 1 500) (jrd_of h6) (fun _ _ => va_cwS 3 X.1.2.2.2.2 (lw_S q1365 q1366 q138 q1367) rfl rfl rfl (by decide +kernel) ⟨(Nat.le_of_ble_eq_true rfl), (Nat.le_of_ble_eq_true rfl)⟩) rfl hl.1 rfl rfl (Nat.le_of_ble_eq_true rfl) dX1_tick_6 ?_
  refine J.tS (As := [.int v6]) (rest := []) X hout ⟨rfl, rfl⟩ (ct_X1_checkArgument l hfl G n σ v6) (fun _ _ => va_cwS 1 X.1.2.2.2.2 (lw_S q2414 q2415 q138 q2416) rfl rfl rfl (by decide +kernel) ⟨(Nat.le_of_ble_eq_true rfl), (Nat.le_of_ble_eq_true rfl)⟩) rfl hl.1 rfl (Nat.le_of_ble_eq_true rfl) dX1_tick_9 (fun v9 S9 h9 => ?_)
  refine J.geq (g2 := F0 m 12 ls []) rfl ?_
  refine J.pu (fun _ _ _ _ k => lv_aload_n X.1.1 X.1.2.1 dX1_tick_12 rfl (lv_at hl 0 rfl) k) ?_
  refine J.getR (k := 4) (ci := 0) X in_X1 (show jCl[0]? = some (RX1, TX1, 9) from rfl) (by decide) q1329 (fun _ h => h) dX1_tick_13 (fun v13 h13 => ?_)
  refine J.getIN (k := 7) (ci := 1) X in_X2 (show jCl[1]? = some (RX2, TX2, 9) from rfl) (by decide) jnf14 (fun _ h => h) dX1_tick_16 (fun v16 h16 => ?_)
  refine J.pu (fun _ _ _ _ k => lv_iload_n X.1.1 X.1.2.1 dX1_tick_19 rfl (lv_at hl 1 rfl) k) ?_
  refine J.pu (fun _ _ _ _ k => lv_iadd X.1.1 X.1.2.1 dX1_tick_20 k) ?_
  refine J.pu (fun _ _ _ _ k => lv_sipush (v := 9999) X.1.1 X.1.2.1 dX1_tick_21 (by decide) k) ?_
  refine J.br (fun _ _ _ _ ka kb => lv_icmp_gt (tgt := 31) X.1.1 X.1.2.1 dX1_tick_24 (by decide) ka kb) (fun c24 => ?_) (fun c24 => ?_)
  · refine J.pu (fun _ _ _ _ k => lv_iconst (v := 0) X.1.1 X.1.2.1 dX1_tick_31 (by decide) k) ?_
    exact j32 0 S9 ls (lv_sub hl [0, 1] rfl)
  · refine J.pu (fun _ _ _ _ k => lv_iconst (v := 1) X.1.1 X.1.2.1 dX1_tick_27 (by decide) k) ?_
    refine J.pu (fun _ _ _ _ k => lv_goto (tgt := 32) X.1.1 X.1.2.1 dX1_tick_28 (by decide) k) ?_
    exact j32 1 S9 ls (lv_sub hl [0, 1] rfl)
noncomputable def X10_read_j42 (G : jG) (n : Nat) (this : Nat) (rec0 : jH → Option (jTh (Option Nat) × jH)) (x1_42 : Option Nat) (s1_42 : Int32) (B42 : jH) : Option (jTh (Option Nat) × jH) :=
  (rc B42 (some this) 7).bind fun o43 => tb (X7_expect_X10 G n B42 o43 s1_42 4) fun v43 S43 => (rc S43 (some this) 7).bind fun o47 => bd (X7_advance_X10 G n S43 o47) fun v47 S47 => (gR S47 (some this) 7 6).bind fun v51 => (rc S47 (some this) 7).bind fun o56 => tb (X10_deed G n S47 o56 x1_42) fun v56 S56 => (rc S56 v51 15).bind fun o59 => bd (jck S56 (alAdd G S56 o59 v56)) fun v59 S59 => (rc S59 (some this) 7).bind fun o66 => tb (X7_end_X10 G n S59 o66) fun v66 S66 => rec0 S66
noncomputable def X10_read_h0 (G : jG) (n : Nat) (this : Nat) (rec0 : jH → Option (jTh (Option Nat) × jH)) (q0 : jH) : Option (jTh (Option Nat) × jH) :=
  let B0 := q0; (rc B0 (some this) 7).bind fun o1 => (X7_isOver_X10 G n B0 o1).bind fun v1 => if v1 = 0 then ((rc B0 (some this) 7).bind fun o8 => (X7_word_X10 G n B0 o8).bind fun v8 => (rc B0 (some this) 7).bind fun o15 => bd (X10_isDeed G n B0 o15 v8) fun v15 S15 => (rc S15 (some this) 7).bind fun o19 => tb (X7_expect_X10 G n S15 o19 v15 1) fun v19 S19 => (gR S19 (some this) 7 6).bind fun v24 => (rc S19 v24 15).bind fun o27 => (lSize 0 S19 o27).bind fun v27 => if 30 ≤ v27 then (X10_read_j42 G n this rec0 v8 0 S19) else (X10_read_j42 G n this rec0 v8 1 S19)) else ((gR B0 (some this) 7 6).bind fun v73 => some (.inl v73, B0))
noncomputable def X10_read_b (G : jG) (n : Nat) (σ : jH) (this : Nat) : Option (jTh (Option Nat) × jH) :=
  jloop (X10_read_h0 G n this) n σ
noncomputable def X10_read (G : jG) (n : Nat) (σ : jH) (this : Nat) : Option (jTh (Option Nat) × jH) := jck σ (X10_read_b G n σ this)
set_option maxHeartbeats 4000000 in
set_option maxRecDepth 100000 in
theorem ct_X10_read (l : Launch) (hfl : l.stackTraces = false) (G : jG) (n : Nat) (σ : jH) (this : Nat) : jTt l G yX10_read (ws_ yX10_read cX10_read 3 (some (.object "java/util/List"))) 27 1353 jrR [.ref this] σ (X10_read G n σ this) := by
  refine jTt.wr (lv := [(0, .ref this)]) rfl (Nat.le_of_ble_eq_true rfl) rfl ?_
  intro t p e s m args below meth c ls X hr hnm hout hl
  have X : jCx p c cX10_read 3 s m args RX10 G meth := X
  have L0 : ∀ (n0 : Nat) (B0 : jH) (ls : Array Slot), lv_has ls 3 [(0, .ref this)] → jGoT l G 27 1353 σ jrR t p e s m args below meth c (jloop (X10_read_h0 G n this) n0 B0) B0 (F0 m 0 ls []) := by
    intro n0
    induction n0 with
    | zero => intro B0 ls hl; exact J.nil_
    | succ n0 ih0 =>
      have j42 : ∀ (x1_42 : Option Nat) (s1_42 : Int32) (B42 : jH) (ls : Array Slot), lv_has ls 3 [(0, .ref this), (1, va_rf x1_42)] → jGoT l G 27 1353 σ jrR t p e s m args below meth c (X10_read_j42 G n this (jloop (X10_read_h0 G n this) n0) x1_42 s1_42 B42) B42 (F0 m 42 ls [.int s1_42, .ref this]) := by
        intro x1_42 s1_42 B42 ls hl
        unfold X10_read_j42
        refine J.pu (fun _ _ _ _ k => lv_iconst (v := 4) X.1.1 X.1.2.1 dX10_read_42 (by decide) k) ?_
        refine J.bind (fun o43 g43 => ?_)
        refine J.tU (q := (RX10, TX10, 8)) (ci := 7) (As := [.int s1_42, .int 4]) (rest := []) X hout ⟨rfl, rfl⟩ (ct_X7_expect_X10 l hfl G n B42 o43 s1_42 4) (fun _ _ => va_cwU 2 X.1.2.2.2.2 (lw_U q1805 q1806 q1807 q1569 q175 q1570) rfl rfl rfl rfl (by decide +kernel) ⟨(Nat.le_of_ble_eq_true rfl), (Nat.le_of_ble_eq_true rfl)⟩) g43 rfl rfl hl.1 rfl (Nat.le_of_ble_eq_true rfl) dX10_read_43 (fun v43 S43 h43 => ?_)
        refine J.geq (g2 := F0 m 46 ls []) rfl ?_
        refine J.pu (fun _ _ _ _ k => lv_aload_n X.1.1 X.1.2.1 dX10_read_46 rfl (lv_at hl 0 rfl) k) ?_
        refine J.bind (fun o47 g47 => ?_)
        refine J.bd' (fun v47 S47 h47 => ?_)
        refine J.cU (q := (RX10, TX10, 8)) (ci := 7) (As := []) (rest := []) (s2 := []) X ⟨rfl, rfl⟩ (ct_X7_advance_X10 l G n S43 o47) h47 (fun _ _ => va_cwU 0 X.1.2.2.2.2 (lw_U q1810 q1811 q1812 q1388 q175 q1392) rfl rfl rfl rfl (by decide +kernel) ⟨(Nat.le_of_ble_eq_true rfl), (Nat.le_of_ble_eq_true rfl)⟩) g47 rfl rfl hl.1 rfl rfl (Nat.le_of_ble_eq_true rfl) dX10_read_47 ?_
        refine J.pu (fun _ _ _ _ k => lv_aload_n X.1.1 X.1.2.1 dX10_read_50 rfl (lv_at hl 0 rfl) k) ?_
        refine J.getR (k := 6) (ci := 7) X in_X10 (show jCl[7]? = some (RX10, TX10, 8) from rfl) (by decide) q1768 (fun _ h => h) dX10_read_51 (fun v51 h51 => ?_)
        refine J.pu (fun _ _ _ _ k => lv_aload_n X.1.1 X.1.2.1 dX10_read_54 rfl (lv_at hl 0 rfl) k) ?_
        refine J.pu (fun _ _ _ _ k => W.rload_n X.1.1 X.1.2.1 dX10_read_55 rfl (lv_at hl 1 rfl) k) ?_
        refine J.bind (fun o56 g56 => ?_)
        refine J.tV (q := (RX10, TX10, 8)) (ci := 7) (As := [va_rf x1_42]) (rest := [va_rf v51]) X hout ⟨rfl, rfl⟩ (ct_X10_deed l hfl G n S47 o56 x1_42) (fun _ _ => cwV 1 X.1.2.2.2.2 (lw_V q1813 q1815 qs24 q182 q1816) rfl rfl rfl (by decide +kernel) ⟨(Nat.le_of_ble_eq_true rfl), (Nat.le_of_ble_eq_true rfl)⟩) g56 rfl rfl hl.1 rfl (by simp [va_rf_cat, jcI, jcA, jcJ, jcD, jcF]) dX10_read_56 (fun v56 S56 h56 => ?_)
        refine J.geq (g2 := F0 m 59 ls [va_rf v56, va_rf v51]) rfl ?_
        refine J.bind (fun o59 g59 => ?_)
        refine J.bd' (fun v59 S59 h59 => ?_)
        refine J.cF (q := (RJ2, TJ2, 3)) (ci := 15) (As := [va_rf v56]) (rest := []) (s2 := [.int v59]) X ⟨rfl, rfl⟩ (ct_J2_add l G S56 o59 v56) h59 (fun _ _ => va_cwF 1 X.1.2.2.2.2 (lw_F q1894 q582 q584 q142 q586) rfl rfl rfl (jfw0 X.2.1) (by decide +kernel) ⟨(Nat.le_of_ble_eq_true rfl), (Nat.le_of_ble_eq_true rfl)⟩) g59 rfl rfl hl.1 rfl rfl (Nat.le_of_ble_eq_true rfl) dX10_read_59 ?_
        refine J.istore_n (i := 2) (lv' := [(2, .int v59), (0, .ref this), (1, va_rf x1_42)]) X.1.1 X.1.2.1 dX10_read_64 rfl hl (by decide) (by first | rfl | simp [va_rf_cat, jcI, jcA, jcJ, jcD, jcF]) (fun ls hl => ?_)
        refine J.pu (fun _ _ _ _ k => lv_aload_n X.1.1 X.1.2.1 dX10_read_65 rfl (lv_at hl 1 rfl) k) ?_
        refine J.bind (fun o66 g66 => ?_)
        refine J.tU (q := (RX10, TX10, 8)) (ci := 7) (As := []) (rest := []) X hout ⟨rfl, rfl⟩ (ct_X7_end_X10 l hfl G n S59 o66) (fun _ _ => va_cwU 0 X.1.2.2.2.2 (lw_U q1895 q1896 q1897 q1622 q175 q1623) rfl rfl rfl rfl (by decide +kernel) ⟨(Nat.le_of_ble_eq_true rfl), (Nat.le_of_ble_eq_true rfl)⟩) g66 rfl rfl hl.1 rfl (Nat.le_of_ble_eq_true rfl) dX10_read_66 (fun v66 S66 h66 => ?_)
        refine J.geq (g2 := F0 m 69 ls []) rfl ?_
        refine J.pu (fun _ _ _ _ k => lv_goto (tgt := 0) X.1.1 X.1.2.1 dX10_read_69 (by decide) k) ?_
        exact ih0 S66 ls (lv_sub hl [1] rfl)
      intro B0 ls hl
      refine J.eq (jloop_s _ _ _) ?_
      dsimp only [X10_read_h0]
      refine J.pu (fun _ _ _ _ k => lv_aload_n X.1.1 X.1.2.1 dX10_read_0 rfl (lv_at hl 0 rfl) k) ?_
      refine J.bind (fun o1 g1 => ?_)
      refine J.bind (fun v1 h1 => ?_)
      refine J.cU (q := (RX10, TX10, 8)) (ci := 7) (As := []) (rest := []) (s2 := [.int v1]) X ⟨rfl, rfl⟩ (ct_X7_isOver_X10 l G n B0 o1) (jrd_of h1) (fun _ _ => va_cwU 0 X.1.2.2.2.2 (lw_U q1785 q1786 q1787 q1628 q175 q1629) rfl rfl rfl rfl (by decide +kernel) ⟨(Nat.le_of_ble_eq_true rfl), (Nat.le_of_ble_eq_true rfl)⟩) g1 rfl rfl hl.1 rfl rfl (Nat.le_of_ble_eq_true rfl) dX10_read_1 ?_
      refine J.br (fun _ _ _ _ ka kb => lv_if_ne (tgt := 72) X.1.1 X.1.2.1 dX10_read_4 (by decide) kb ka) (fun c4 => ?_) (fun c4 => ?_)
      · refine J.pu (fun _ _ _ _ k => lv_aload_n X.1.1 X.1.2.1 dX10_read_7 rfl (lv_at hl 0 rfl) k) ?_
        refine J.bind (fun o8 g8 => ?_)
        refine J.bind (fun v8 h8 => ?_)
        refine J.cU (q := (RX10, TX10, 8)) (ci := 7) (As := []) (rest := []) (s2 := [va_rf v8]) X ⟨rfl, rfl⟩ (ct_X7_word_X10 l G n B0 o8) (jrd_of h8) (fun _ _ => va_cwU 0 X.1.2.2.2.2 (lw_U q1788 q1789 q1790 q1554 q175 q1555) rfl rfl rfl rfl (by decide +kernel) ⟨(Nat.le_of_ble_eq_true rfl), (Nat.le_of_ble_eq_true rfl)⟩) g8 rfl rfl hl.1 rfl rfl (Nat.le_of_ble_eq_true rfl) dX10_read_8 ?_
        refine J.astore_n (r := v8) (i := 1) (lv' := [(1, va_rf v8), (0, .ref this)]) X.1.1 X.1.2.1 dX10_read_11 rfl hl (by decide) (by first | rfl | simp [va_rf_cat, jcI, jcA, jcJ, jcD, jcF]) (fun ls hl => ?_)
        refine J.pu (fun _ _ _ _ k => lv_aload_n X.1.1 X.1.2.1 dX10_read_12 rfl (lv_at hl 1 rfl) k) ?_
        refine J.pu (fun _ _ _ _ k => lv_aload_n X.1.1 X.1.2.1 dX10_read_13 rfl (lv_at hl 1 rfl) k) ?_
        refine J.pu (fun _ _ _ _ k => W.rload_n X.1.1 X.1.2.1 dX10_read_14 rfl (lv_at hl 0 rfl) k) ?_
        refine J.bind (fun o15 g15 => ?_)
        refine J.bd' (fun v15 S15 h15 => ?_)
        refine J.cV (q := (RX10, TX10, 8)) (ci := 7) (As := [va_rf v8]) (rest := [.ref this]) (s2 := [.int v15, .ref this]) X ⟨rfl, rfl⟩ (ct_X10_isDeed l G n B0 o15 v8) h15 (fun _ _ => cwV 1 X.1.2.2.2.2 (lw_V q1791 q1793 qs23 q182 q1794) rfl rfl rfl (by decide +kernel) ⟨(Nat.le_of_ble_eq_true rfl), (Nat.le_of_ble_eq_true rfl)⟩) g15 rfl rfl hl.1 rfl rfl (Nat.le_of_ble_eq_true rfl) dX10_read_15 ?_
        refine J.pu (fun _ _ _ _ k => lv_iconst (v := 1) X.1.1 X.1.2.1 dX10_read_18 (by decide) k) ?_
        refine J.bind (fun o19 g19 => ?_)
        refine J.tU (q := (RX10, TX10, 8)) (ci := 7) (As := [.int v15, .int 1]) (rest := []) X hout ⟨rfl, rfl⟩ (ct_X7_expect_X10 l hfl G n S15 o19 v15 1) (fun _ _ => va_cwU 2 X.1.2.2.2.2 (lw_U q1805 q1806 q1807 q1569 q175 q1570) rfl rfl rfl rfl (by decide +kernel) ⟨(Nat.le_of_ble_eq_true rfl), (Nat.le_of_ble_eq_true rfl)⟩) g19 rfl rfl hl.1 rfl (Nat.le_of_ble_eq_true rfl) dX10_read_19 (fun v19 S19 h19 => ?_)
        refine J.geq (g2 := F0 m 22 ls []) rfl ?_
        refine J.pu (fun _ _ _ _ k => lv_aload_n X.1.1 X.1.2.1 dX10_read_22 rfl (lv_at hl 1 rfl) k) ?_
        refine J.pu (fun _ _ _ _ k => lv_aload_n X.1.1 X.1.2.1 dX10_read_23 rfl (lv_at hl 1 rfl) k) ?_
        refine J.getR (k := 6) (ci := 7) X in_X10 (show jCl[7]? = some (RX10, TX10, 8) from rfl) (by decide) q1768 (fun _ h => h) dX10_read_24 (fun v24 h24 => ?_)
        refine J.bind (fun o27 g27 => ?_)
        refine J.bind (fun v27 h27 => ?_)
        refine J.cF (q := (RJ2, TJ2, 3)) (ci := 15) (As := []) (rest := [.ref this]) (s2 := [.int v27, .ref this]) X ⟨rfl, rfl⟩ (ct_J2_size l G S19 o27) (jrd_of h27) (fun _ _ => va_cwF 0 X.1.2.2.2.2 (lw_F q1809 q832 q834 q142 q836) rfl rfl rfl (jfw2 X.2.1) (by decide +kernel) ⟨(Nat.le_of_ble_eq_true rfl), (Nat.le_of_ble_eq_true rfl)⟩) g27 rfl rfl hl.1 rfl rfl (Nat.le_of_ble_eq_true rfl) dX10_read_27 ?_
        refine J.pu (fun _ _ _ _ k => lv_bipush (v := 30) X.1.1 X.1.2.1 dX10_read_32 (by decide) k) ?_
        refine J.br (fun _ _ _ _ ka kb => lv_icmp_ge (tgt := 41) X.1.1 X.1.2.1 dX10_read_34 (by decide) ka kb) (fun c34 => ?_) (fun c34 => ?_)
        · refine J.pu (fun _ _ _ _ k => lv_iconst (v := 0) X.1.1 X.1.2.1 dX10_read_41 (by decide) k) ?_
          exact j42 v8 0 S19 ls (lv_sub hl [1, 0] rfl)
        · refine J.pu (fun _ _ _ _ k => lv_iconst (v := 1) X.1.1 X.1.2.1 dX10_read_37 (by decide) k) ?_
          refine J.pu (fun _ _ _ _ k => lv_goto (tgt := 42) X.1.1 X.1.2.1 dX10_read_38 (by decide) k) ?_
          exact j42 v8 1 S19 ls (lv_sub hl [1, 0] rfl)
      · refine J.pu (fun _ _ _ _ k => lv_aload_n X.1.1 X.1.2.1 dX10_read_72 rfl (lv_at hl 0 rfl) k) ?_
        refine J.getR (k := 6) (ci := 7) X in_X10 (show jCl[7]? = some (RX10, TX10, 8) from rfl) (by decide) q1768 (fun _ h => h) dX10_read_73 (fun v73 h73 => ?_)
        exact J.tret (J.aret (vr := fun t : (Option Nat) × jH => jrR t.1) (fin := (Prod.snd : (Option Nat) × jH → jH)) (t := (v73, B0)) X hr (Or.inl ⟨_, rfl⟩) (by rfl) (by rfl) dX10_read_76)
  unfold X10_read_b
  exact L0 n σ ls (lv_sub hl [0] rfl)
noncomputable def X13_does_b (G : jG) (n : Nat) (σ : jH) (this : Nat) (a1 : Option Nat) : Option (Int32 × jH) :=
  (gI σ a1 1 7).bind fun v1 => (rc σ (some this) 10).bind fun o5 => (X11_first_X13 G n σ o5).bind fun v5 => if 9999 < (v1 + v5) then (some (0, σ)) else ((rc σ (some this) 10).bind fun o17 => (X11_first_X13 G n σ o17).bind fun v17 => (rc σ a1 1).bind fun o20 => bd (X2_goes G n σ o20 v17) fun v20 S20 => if v20 < 0 then (some (0, S20)) else (some (1, S20)))
noncomputable def X13_does (G : jG) (n : Nat) (σ : jH) (this : Nat) (a1 : Option Nat) : Option (Int32 × jH) := jck σ (X13_does_b G n σ this a1)
set_option maxHeartbeats 4000000 in
set_option maxRecDepth 100000 in
theorem ct_X13_does (l : Launch) (G : jG) (n : Nat) (σ : jH) (this : Nat) (a1 : Option Nat) : jCt l G yX13_does (ws_ yX13_does cX13_does 2 (some .boolean)) 27 1358 jrI [.ref this, va_rf a1] σ (X13_does G n σ this a1) := by
  refine jCt.wr (lv := [(0, .ref this), (1, va_rf a1)]) (plainFor_of_name (by decide)) (by simp [lg_sl, va_rf_cat, jcI, jcA, jcJ, jcD, jcF]) (by simp [lv_args, va_rf_cat, jcI, jcA, jcJ, jcD, jcF]) ?_
  intro t p e s m args below meth c ls X hr hnm hl
  have X : jCx p c cX13_does 2 s m args RX13 G meth := X
  unfold X13_does_b
  refine J.pu (fun _ _ _ _ k => W.rload_n X.1.1 X.1.2.1 dX13_does_0 rfl (lv_at hl 1 rfl) k) ?_
  refine J.getIN (k := 7) (ci := 1) X in_X2 (show jCl[1]? = some (RX2, TX2, 9) from rfl) (by decide) jnf13 (fun _ h => h) dX13_does_1 (fun v1 h1 => ?_)
  refine J.pu (fun _ _ _ _ k => lv_aload_n X.1.1 X.1.2.1 dX13_does_4 rfl (lv_at hl 0 rfl) k) ?_
  refine J.bind (fun o5 g5 => ?_)
  refine J.bind (fun v5 h5 => ?_)
  refine J.cU (q := (RX13, TX13, 2)) (ci := 10) (As := []) (rest := [.int v1]) (s2 := [.int v5, .int v1]) X ⟨rfl, rfl⟩ (ct_X11_first_X13 l G n σ o5) (jrd_of h5) (fun _ _ => va_cwU 0 X.1.2.2.2.2 (lw_U q2049 q2050 q2051 q1968 q183 q1969) rfl rfl rfl rfl (by decide +kernel) ⟨(Nat.le_of_ble_eq_true rfl), (Nat.le_of_ble_eq_true rfl)⟩) g5 rfl rfl hl.1 rfl rfl (Nat.le_of_ble_eq_true rfl) dX13_does_5 ?_
  refine J.pu (fun _ _ _ _ k => lv_iadd X.1.1 X.1.2.1 dX13_does_8 k) ?_
  refine J.pu (fun _ _ _ _ k => lv_sipush (v := 9999) X.1.1 X.1.2.1 dX13_does_9 (by decide) k) ?_
  refine J.br (fun _ _ _ _ ka kb => lv_icmp_gt (tgt := 30) X.1.1 X.1.2.1 dX13_does_12 (by decide) ka kb) (fun c12 => ?_) (fun c12 => ?_)
  · refine J.pu (fun _ _ _ _ k => lv_iconst (v := 0) X.1.1 X.1.2.1 dX13_does_30 (by decide) k) ?_
    exact J.zret (vr := fun t : Int32 × jH => jrI t.1) (fin := Prod.snd) (t := t) X hr (by decide) (by rfl) (by rfl) dX13_does_31
  · refine J.pu (fun _ _ _ _ k => W.rload_n X.1.1 X.1.2.1 dX13_does_15 rfl (lv_at hl 1 rfl) k) ?_
    refine J.pu (fun _ _ _ _ k => lv_aload_n X.1.1 X.1.2.1 dX13_does_16 rfl (lv_at hl 0 rfl) k) ?_
    refine J.bind (fun o17 g17 => ?_)
    refine J.bind (fun v17 h17 => ?_)
    refine J.cU (q := (RX13, TX13, 2)) (ci := 10) (As := []) (rest := [va_rf a1]) (s2 := [.int v17, va_rf a1]) X ⟨rfl, rfl⟩ (ct_X11_first_X13 l G n σ o17) (jrd_of h17) (fun _ _ => va_cwU 0 X.1.2.2.2.2 (lw_U q2049 q2050 q2051 q1968 q183 q1969) rfl rfl rfl rfl (by decide +kernel) ⟨(Nat.le_of_ble_eq_true rfl), (Nat.le_of_ble_eq_true rfl)⟩) g17 rfl rfl hl.1 rfl rfl (by simp [va_rf_cat, jcI, jcA, jcJ, jcD, jcF]) dX13_does_17 ?_
    refine J.bind (fun o20 g20 => ?_)
    refine J.bd' (fun v20 S20 h20 => ?_)
    refine J.cV (q := (RX2, TX2, 9)) (ci := 1) (As := [.int v17]) (rest := []) (s2 := [.int v20]) X ⟨rfl, rfl⟩ (ct_X2_goes l G n σ o20 v17) h20 (fun _ _ => cwV 1 X.1.2.2.2.2 (lw_V q2052 q2053 q2054 q139 q2055) rfl rfl rfl (by decide +kernel) ⟨(Nat.le_of_ble_eq_true rfl), (Nat.le_of_ble_eq_true rfl)⟩) g20 rfl rfl hl.1 rfl rfl (Nat.le_of_ble_eq_true rfl) dX13_does_20 ?_
    refine J.br (fun _ _ _ _ ka kb => lv_if_lt (tgt := 30) X.1.1 X.1.2.1 dX13_does_23 (by decide) ka kb) (fun c23 => ?_) (fun c23 => ?_)
    · refine J.pu (fun _ _ _ _ k => lv_iconst (v := 0) X.1.1 X.1.2.1 dX13_does_30 (by decide) k) ?_
      exact J.zret (vr := fun t : Int32 × jH => jrI t.1) (fin := Prod.snd) (t := t) X hr (by decide) (by rfl) (by rfl) dX13_does_31
    · refine J.pu (fun _ _ _ _ k => lv_iconst (v := 1) X.1.1 X.1.2.1 dX13_does_26 (by decide) k) ?_
      refine J.pu (fun _ _ _ _ k => lv_goto (tgt := 31) X.1.1 X.1.2.1 dX13_does_27 (by decide) k) ?_
      exact J.zret (vr := fun t : Int32 × jH => jrI t.1) (fin := Prod.snd) (t := t) X hr (by decide) (by rfl) (by rfl) dX13_does_31
noncomputable def X0_endsAs_b (G : jG) (n : Nat) (σ : jH) (a0 : Option Nat) (a1 : Int32) (a2 : Int32) (a3 : Option Nat) : Option (Int32 × jH) :=
  (rc σ a0 0).bind fun o5 => tc (X1_endsAs G n σ o5 a1 a2) (fun v5 S5 => (sJ G S5 a3 0 v5.toInt64).bind fun S9 => some (0, S9)) (fun k5 q5 S5 => if k5 = 0 then (some (2, S5)) else if k5 = 2 then (some (1, S5)) else none)
noncomputable def X0_endsAs (G : jG) (n : Nat) (σ : jH) (a0 : Option Nat) (a1 : Int32) (a2 : Int32) (a3 : Option Nat) : Option (Int32 × jH) := jck σ (X0_endsAs_b G n σ a0 a1 a2 a3)
set_option maxHeartbeats 4000000 in
set_option maxRecDepth 100000 in
theorem ct_X0_endsAs (l : Launch) (hfl : l.stackTraces = false) (G : jG) (n : Nat) (σ : jH) (a0 : Option Nat) (a1 : Int32) (a2 : Int32) (a3 : Option Nat) : jCt l G yX0_endsAs (wsW_ yX0_endsAs cX0_endsAs 5 (some .int) [(0, 10, 13, 22), (0, 10, 17, 13)]) 28 1383 jrI [va_rf a0, .int a1, .int a2, va_rf a3] σ (X0_endsAs G n σ a0 a1 a2 a3) := by
  refine jCt.wrH (hh := [(0, 10, 13, 22), (0, 10, 17, 13)]) (lv := [(0, va_rf a0), (1, .int a1), (2, .int a2), (3, va_rf a3)]) (plainFor_of_name (by decide)) (by simp [lg_sl, va_rf_cat, jcI, jcA, jcJ, jcD, jcF]) (by simp [lv_args, va_rf_cat, jcI, jcA, jcJ, jcD, jcF]) ?_
  intro t p e s m args below meth c ls X hr hnm htab hl
  have X : jCx p c cX0_endsAs 5 s m args RX0 G meth := X
  unfold X0_endsAs_b
  refine J.pu (fun _ _ _ _ k => W.rload_n X.1.1 X.1.2.1 dX0_endsAs_0 rfl (lv_at hl 3 rfl) k) ?_
  refine J.pu (fun _ _ _ _ k => lv_iconst (v := 0) X.1.1 X.1.2.1 dX0_endsAs_1 (by decide) k) ?_
  refine J.pu (fun _ _ _ _ k => W.rload_n X.1.1 X.1.2.1 dX0_endsAs_2 rfl (lv_at hl 0 rfl) k) ?_
  refine J.pu (fun _ _ _ _ k => lv_iload_n X.1.1 X.1.2.1 dX0_endsAs_3 rfl (lv_at hl 1 rfl) k) ?_
  refine J.pu (fun _ _ _ _ k => lv_iload_n X.1.1 X.1.2.1 dX0_endsAs_4 rfl (lv_at hl 2 rfl) k) ?_
  refine J.bind (fun o5 g5 => ?_)
  refine J.hV (q := (RX1, TX1, 9)) (ci := 0) (As := [.int a1, .int a2]) (rest := [.int 0, va_rf a3]) X ⟨rfl, rfl⟩ (ct_X1_endsAs l hfl G n σ o5 a1 a2) (fun _ _ => cwV 2 X.1.2.2.2.2 (lw_V q2566 q2567 q2568 q138 q2569) rfl rfl rfl (by decide +kernel) ⟨(Nat.le_of_ble_eq_true rfl), (Nat.le_of_ble_eq_true rfl)⟩) g5 rfl rfl hl.1 rfl (by simp [va_rf_cat, jcI, jcA, jcJ, jcD, jcF]) dX0_endsAs_5 (fun v5 S5 h5 => ?_) (fun k5 q5 S5 h5 => ?_)
  · refine J.geq (g2 := F0 m 8 ls [.int v5, .int 0, va_rf a3]) rfl ?_
    refine J.pu (fun _ _ _ _ k => lv_i2l (v := v5.toInt64) X.1.1 X.1.2.1 dX0_endsAs_8 rfl k) ?_
    refine J.sJ' X dX0_endsAs_9 (fun S9 h9 => ?_)
    refine J.pu (fun _ _ _ _ k => lv_goto (tgt := 21) X.1.1 X.1.2.1 dX0_endsAs_10 (by decide) k) ?_
    refine J.pu (fun _ _ _ _ k => lv_iconst (v := 0) X.1.1 X.1.2.1 dX0_endsAs_21 (by decide) k) ?_
    exact J.iret (vr := fun t : Int32 × jH => jrI t.1) (fin := Prod.snd) (t := t) X hr (by rfl) (by rfl) dX0_endsAs_22
  · refine Jx.ite (fun k5_0 => ?_) (fun k5_0 => ?_)
    · refine Jx.catch_ (E := "java/lang/IllegalArgumentException") (nm := "java/lang/IllegalArgumentException") X k5_0 rfl [(⟨0, 10, 13, 22⟩ : ExceptionTableEntry)] (⟨0, 10, 17, 13⟩ : ExceptionTableEntry) [] (htab.trans rfl) (List.forall_mem_cons.mpr ⟨(Or.inr ⟨by decide, "java/lang/IndexOutOfBoundsException", q2420, List.mem_of_getElem? (i := 0) rfl⟩), jnil_all⟩) rfl (by decide) q2385 jnc0 ?_
      refine J.astore (r := (some q5)) (lv' := [(4, va_rf (some q5)), (0, va_rf a0), (1, .int a1), (2, .int a2), (3, va_rf a3)]) X.1.1 X.1.2.1 dX0_endsAs_17 hl (by decide) (by first | rfl | simp [va_rf_cat, jcI, jcA, jcJ, jcD, jcF]) (fun ls hl => ?_)
      refine J.pu (fun _ _ _ _ k => lv_iconst (v := 2) X.1.1 X.1.2.1 dX0_endsAs_19 (by decide) k) ?_
      exact J.iret (vr := fun t : Int32 × jH => jrI t.1) (fin := Prod.snd) (t := t) X hr (by rfl) (by rfl) dX0_endsAs_20
    refine Jx.ite (fun k5_2 => ?_) (fun k5_2 => ?_)
    · refine Jx.catch_ (E := "java/lang/IndexOutOfBoundsException") (nm := "java/lang/IndexOutOfBoundsException") X k5_2 rfl [] (⟨0, 10, 13, 22⟩ : ExceptionTableEntry) [(⟨0, 10, 17, 13⟩ : ExceptionTableEntry)] (htab.trans rfl) jnil_all rfl (by decide) q2420 jnc4 ?_
      refine J.astore (r := (some q5)) (lv' := [(4, va_rf (some q5)), (0, va_rf a0), (1, .int a1), (2, .int a2), (3, va_rf a3)]) X.1.1 X.1.2.1 dX0_endsAs_13 hl (by decide) (by first | rfl | simp [va_rf_cat, jcI, jcA, jcJ, jcD, jcF]) (fun ls hl => ?_)
      refine J.pu (fun _ _ _ _ k => lv_iconst (v := 1) X.1.1 X.1.2.1 dX0_endsAs_15 (by decide) k) ?_
      exact J.iret (vr := fun t : Int32 × jH => jrI t.1) (fin := Prod.snd) (t := t) X hr (by rfl) (by rfl) dX0_endsAs_16
    exact Jx.nil_
noncomputable def X0_heldIn_b (G : jG) (n : Nat) (σ : jH) (a0 : Option Nat) (a1 : Int32) (a2 : Int32) (a3 : Option Nat) : Option (Int32 × jH) :=
  (rc σ a0 0).bind fun o5 => tc (X1_heldIn G n σ o5 a1 a2) (fun v5 S5 => (sJ G S5 a3 0 v5.toInt64).bind fun S9 => some (0, S9)) (fun k5 q5 S5 => if k5 = 0 then (some (2, S5)) else if k5 = 2 then (some (1, S5)) else none)
noncomputable def X0_heldIn (G : jG) (n : Nat) (σ : jH) (a0 : Option Nat) (a1 : Int32) (a2 : Int32) (a3 : Option Nat) : Option (Int32 × jH) := jck σ (X0_heldIn_b G n σ a0 a1 a2 a3)
set_option maxHeartbeats 4000000 in
set_option maxRecDepth 100000 in
theorem ct_X0_heldIn (l : Launch) (hfl : l.stackTraces = false) (G : jG) (n : Nat) (σ : jH) (a0 : Option Nat) (a1 : Int32) (a2 : Int32) (a3 : Option Nat) : jCt l G yX0_heldIn (wsW_ yX0_heldIn cX0_heldIn 5 (some .int) [(0, 10, 13, 22), (0, 10, 17, 13)]) 28 1383 jrI [va_rf a0, .int a1, .int a2, va_rf a3] σ (X0_heldIn G n σ a0 a1 a2 a3) := by
  refine jCt.wrH (hh := [(0, 10, 13, 22), (0, 10, 17, 13)]) (lv := [(0, va_rf a0), (1, .int a1), (2, .int a2), (3, va_rf a3)]) (plainFor_of_name (by decide)) (by simp [lg_sl, va_rf_cat, jcI, jcA, jcJ, jcD, jcF]) (by simp [lv_args, va_rf_cat, jcI, jcA, jcJ, jcD, jcF]) ?_
  intro t p e s m args below meth c ls X hr hnm htab hl
  have X : jCx p c cX0_heldIn 5 s m args RX0 G meth := X
  unfold X0_heldIn_b
  refine J.pu (fun _ _ _ _ k => W.rload_n X.1.1 X.1.2.1 dX0_heldIn_0 rfl (lv_at hl 3 rfl) k) ?_
  refine J.pu (fun _ _ _ _ k => lv_iconst (v := 0) X.1.1 X.1.2.1 dX0_heldIn_1 (by decide) k) ?_
  refine J.pu (fun _ _ _ _ k => W.rload_n X.1.1 X.1.2.1 dX0_heldIn_2 rfl (lv_at hl 0 rfl) k) ?_
  refine J.pu (fun _ _ _ _ k => lv_iload_n X.1.1 X.1.2.1 dX0_heldIn_3 rfl (lv_at hl 1 rfl) k) ?_
  refine J.pu (fun _ _ _ _ k => lv_iload_n X.1.1 X.1.2.1 dX0_heldIn_4 rfl (lv_at hl 2 rfl) k) ?_
  refine J.bind (fun o5 g5 => ?_)
  refine J.hV (q := (RX1, TX1, 9)) (ci := 0) (As := [.int a1, .int a2]) (rest := [.int 0, va_rf a3]) X ⟨rfl, rfl⟩ (ct_X1_heldIn l hfl G n σ o5 a1 a2) (fun _ _ => cwV 2 X.1.2.2.2.2 (lw_V q2581 q2582 q2583 q138 q2584) rfl rfl rfl (by decide +kernel) ⟨(Nat.le_of_ble_eq_true rfl), (Nat.le_of_ble_eq_true rfl)⟩) g5 rfl rfl hl.1 rfl (by simp [va_rf_cat, jcI, jcA, jcJ, jcD, jcF]) dX0_heldIn_5 (fun v5 S5 h5 => ?_) (fun k5 q5 S5 h5 => ?_)
  · refine J.geq (g2 := F0 m 8 ls [.int v5, .int 0, va_rf a3]) rfl ?_
    refine J.pu (fun _ _ _ _ k => lv_i2l (v := v5.toInt64) X.1.1 X.1.2.1 dX0_heldIn_8 rfl k) ?_
    refine J.sJ' X dX0_heldIn_9 (fun S9 h9 => ?_)
    refine J.pu (fun _ _ _ _ k => lv_goto (tgt := 21) X.1.1 X.1.2.1 dX0_heldIn_10 (by decide) k) ?_
    refine J.pu (fun _ _ _ _ k => lv_iconst (v := 0) X.1.1 X.1.2.1 dX0_heldIn_21 (by decide) k) ?_
    exact J.iret (vr := fun t : Int32 × jH => jrI t.1) (fin := Prod.snd) (t := t) X hr (by rfl) (by rfl) dX0_heldIn_22
  · refine Jx.ite (fun k5_0 => ?_) (fun k5_0 => ?_)
    · refine Jx.catch_ (E := "java/lang/IllegalArgumentException") (nm := "java/lang/IllegalArgumentException") X k5_0 rfl [(⟨0, 10, 13, 22⟩ : ExceptionTableEntry)] (⟨0, 10, 17, 13⟩ : ExceptionTableEntry) [] (htab.trans rfl) (List.forall_mem_cons.mpr ⟨(Or.inr ⟨by decide, "java/lang/IndexOutOfBoundsException", q2420, List.mem_of_getElem? (i := 0) rfl⟩), jnil_all⟩) rfl (by decide) q2385 jnc0 ?_
      refine J.astore (r := (some q5)) (lv' := [(4, va_rf (some q5)), (0, va_rf a0), (1, .int a1), (2, .int a2), (3, va_rf a3)]) X.1.1 X.1.2.1 dX0_heldIn_17 hl (by decide) (by first | rfl | simp [va_rf_cat, jcI, jcA, jcJ, jcD, jcF]) (fun ls hl => ?_)
      refine J.pu (fun _ _ _ _ k => lv_iconst (v := 2) X.1.1 X.1.2.1 dX0_heldIn_19 (by decide) k) ?_
      exact J.iret (vr := fun t : Int32 × jH => jrI t.1) (fin := Prod.snd) (t := t) X hr (by rfl) (by rfl) dX0_heldIn_20
    refine Jx.ite (fun k5_2 => ?_) (fun k5_2 => ?_)
    · refine Jx.catch_ (E := "java/lang/IndexOutOfBoundsException") (nm := "java/lang/IndexOutOfBoundsException") X k5_2 rfl [] (⟨0, 10, 13, 22⟩ : ExceptionTableEntry) [(⟨0, 10, 17, 13⟩ : ExceptionTableEntry)] (htab.trans rfl) jnil_all rfl (by decide) q2420 jnc4 ?_
      refine J.astore (r := (some q5)) (lv' := [(4, va_rf (some q5)), (0, va_rf a0), (1, .int a1), (2, .int a2), (3, va_rf a3)]) X.1.1 X.1.2.1 dX0_heldIn_13 hl (by decide) (by first | rfl | simp [va_rf_cat, jcI, jcA, jcJ, jcD, jcF]) (fun ls hl => ?_)
      refine J.pu (fun _ _ _ _ k => lv_iconst (v := 1) X.1.1 X.1.2.1 dX0_heldIn_15 (by decide) k) ?_
      exact J.iret (vr := fun t : Int32 × jH => jrI t.1) (fin := Prod.snd) (t := t) X hr (by rfl) (by rfl) dX0_heldIn_16
    exact Jx.nil_
noncomputable def X0_growsIn_b (G : jG) (n : Nat) (σ : jH) (a0 : Option Nat) (a1 : Int32) (a2 : Int32) (a3 : Option Nat) : Option (Int32 × jH) :=
  (rc σ a0 0).bind fun o5 => tc (X1_growsIn G n σ o5 a1 a2) (fun v5 S5 => (sJ G S5 a3 0 v5.toInt64).bind fun S9 => some (0, S9)) (fun k5 q5 S5 => if k5 = 0 then (some (1, S5)) else none)
noncomputable def X0_growsIn (G : jG) (n : Nat) (σ : jH) (a0 : Option Nat) (a1 : Int32) (a2 : Int32) (a3 : Option Nat) : Option (Int32 × jH) := jck σ (X0_growsIn_b G n σ a0 a1 a2 a3)
set_option maxHeartbeats 4000000 in
set_option maxRecDepth 100000 in
theorem ct_X0_growsIn (l : Launch) (hfl : l.stackTraces = false) (G : jG) (n : Nat) (σ : jH) (a0 : Option Nat) (a1 : Int32) (a2 : Int32) (a3 : Option Nat) : jCt l G yX0_growsIn (wsW_ yX0_growsIn cX0_growsIn 5 (some .int) [(0, 10, 13, 13)]) 28 1382 jrI [va_rf a0, .int a1, .int a2, va_rf a3] σ (X0_growsIn G n σ a0 a1 a2 a3) := by
  refine jCt.wrH (hh := [(0, 10, 13, 13)]) (lv := [(0, va_rf a0), (1, .int a1), (2, .int a2), (3, va_rf a3)]) (plainFor_of_name (by decide)) (by simp [lg_sl, va_rf_cat, jcI, jcA, jcJ, jcD, jcF]) (by simp [lv_args, va_rf_cat, jcI, jcA, jcJ, jcD, jcF]) ?_
  intro t p e s m args below meth c ls X hr hnm htab hl
  have X : jCx p c cX0_growsIn 5 s m args RX0 G meth := X
  unfold X0_growsIn_b
  refine J.pu (fun _ _ _ _ k => W.rload_n X.1.1 X.1.2.1 dX0_growsIn_0 rfl (lv_at hl 3 rfl) k) ?_
  refine J.pu (fun _ _ _ _ k => lv_iconst (v := 0) X.1.1 X.1.2.1 dX0_growsIn_1 (by decide) k) ?_
  refine J.pu (fun _ _ _ _ k => W.rload_n X.1.1 X.1.2.1 dX0_growsIn_2 rfl (lv_at hl 0 rfl) k) ?_
  refine J.pu (fun _ _ _ _ k => lv_iload_n X.1.1 X.1.2.1 dX0_growsIn_3 rfl (lv_at hl 1 rfl) k) ?_
  refine J.pu (fun _ _ _ _ k => lv_iload_n X.1.1 X.1.2.1 dX0_growsIn_4 rfl (lv_at hl 2 rfl) k) ?_
  refine J.bind (fun o5 g5 => ?_)
  refine J.hV (q := (RX1, TX1, 9)) (ci := 0) (As := [.int a1, .int a2]) (rest := [.int 0, va_rf a3]) X ⟨rfl, rfl⟩ (ct_X1_growsIn l hfl G n σ o5 a1 a2) (fun _ _ => cwV 2 X.1.2.2.2.2 (lw_V q2588 q2589 q2590 q138 q2591) rfl rfl rfl (by decide +kernel) ⟨(Nat.le_of_ble_eq_true rfl), (Nat.le_of_ble_eq_true rfl)⟩) g5 rfl rfl hl.1 rfl (by simp [va_rf_cat, jcI, jcA, jcJ, jcD, jcF]) dX0_growsIn_5 (fun v5 S5 h5 => ?_) (fun k5 q5 S5 h5 => ?_)
  · refine J.geq (g2 := F0 m 8 ls [.int v5, .int 0, va_rf a3]) rfl ?_
    refine J.pu (fun _ _ _ _ k => lv_i2l (v := v5.toInt64) X.1.1 X.1.2.1 dX0_growsIn_8 rfl k) ?_
    refine J.sJ' X dX0_growsIn_9 (fun S9 h9 => ?_)
    refine J.pu (fun _ _ _ _ k => lv_goto (tgt := 17) X.1.1 X.1.2.1 dX0_growsIn_10 (by decide) k) ?_
    refine J.pu (fun _ _ _ _ k => lv_iconst (v := 0) X.1.1 X.1.2.1 dX0_growsIn_17 (by decide) k) ?_
    exact J.iret (vr := fun t : Int32 × jH => jrI t.1) (fin := Prod.snd) (t := t) X hr (by rfl) (by rfl) dX0_growsIn_18
  · refine Jx.ite (fun k5_0 => ?_) (fun k5_0 => ?_)
    · refine Jx.catch_ (E := "java/lang/IllegalArgumentException") (nm := "java/lang/IllegalArgumentException") X k5_0 rfl [] (⟨0, 10, 13, 13⟩ : ExceptionTableEntry) [] (htab.trans rfl) jnil_all rfl (by decide) q2385 jnc0 ?_
      refine J.astore (r := (some q5)) (lv' := [(4, va_rf (some q5)), (0, va_rf a0), (1, .int a1), (2, .int a2), (3, va_rf a3)]) X.1.1 X.1.2.1 dX0_growsIn_13 hl (by decide) (by first | rfl | simp [va_rf_cat, jcI, jcA, jcJ, jcD, jcF]) (fun ls hl => ?_)
      refine J.pu (fun _ _ _ _ k => lv_iconst (v := 1) X.1.1 X.1.2.1 dX0_growsIn_15 (by decide) k) ?_
      exact J.iret (vr := fun t : Int32 × jH => jrI t.1) (fin := Prod.snd) (t := t) X hr (by rfl) (by rfl) dX0_growsIn_16
    exact Jx.nil_
noncomputable def X0_bestEmpty_b (G : jG) (n : Nat) (σ : jH) (a0 : Option Nat) (a1 : Int32) (a2 : Option Nat) : Option (Int32 × jH) :=
  (rc σ a0 0).bind fun o4 => tc (X1_bestEmpty G n σ o4 a1) (fun v4 S4 => (sJ G S4 a2 0 v4.toInt64).bind fun S8 => some (0, S8)) (fun k4 q4 S4 => if k4 = 0 then (some (1, S4)) else none)
noncomputable def X0_bestEmpty (G : jG) (n : Nat) (σ : jH) (a0 : Option Nat) (a1 : Int32) (a2 : Option Nat) : Option (Int32 × jH) := jck σ (X0_bestEmpty_b G n σ a0 a1 a2)
set_option maxHeartbeats 4000000 in
set_option maxRecDepth 100000 in
theorem ct_X0_bestEmpty (l : Launch) (hfl : l.stackTraces = false) (G : jG) (n : Nat) (σ : jH) (a0 : Option Nat) (a1 : Int32) (a2 : Option Nat) : jCt l G yX0_bestEmpty (wsW_ yX0_bestEmpty cX0_bestEmpty 4 (some .int) [(0, 9, 12, 13)]) 29 1407 jrI [va_rf a0, .int a1, va_rf a2] σ (X0_bestEmpty G n σ a0 a1 a2) := by
  refine jCt.wrH (hh := [(0, 9, 12, 13)]) (lv := [(0, va_rf a0), (1, .int a1), (2, va_rf a2)]) (plainFor_of_name (by decide)) (by simp [lg_sl, va_rf_cat, jcI, jcA, jcJ, jcD, jcF]) (by simp [lv_args, va_rf_cat, jcI, jcA, jcJ, jcD, jcF]) ?_
  intro t p e s m args below meth c ls X hr hnm htab hl
  have X : jCx p c cX0_bestEmpty 4 s m args RX0 G meth := X
  unfold X0_bestEmpty_b
  refine J.pu (fun _ _ _ _ k => W.rload_n X.1.1 X.1.2.1 dX0_bestEmpty_0 rfl (lv_at hl 2 rfl) k) ?_
  refine J.pu (fun _ _ _ _ k => lv_iconst (v := 0) X.1.1 X.1.2.1 dX0_bestEmpty_1 (by decide) k) ?_
  refine J.pu (fun _ _ _ _ k => W.rload_n X.1.1 X.1.2.1 dX0_bestEmpty_2 rfl (lv_at hl 0 rfl) k) ?_
  refine J.pu (fun _ _ _ _ k => lv_iload_n X.1.1 X.1.2.1 dX0_bestEmpty_3 rfl (lv_at hl 1 rfl) k) ?_
  refine J.bind (fun o4 g4 => ?_)
  refine J.hV (q := (RX1, TX1, 9)) (ci := 0) (As := [.int a1]) (rest := [.int 0, va_rf a2]) X ⟨rfl, rfl⟩ (ct_X1_bestEmpty l hfl G n σ o4 a1) (fun _ _ => cwV 1 X.1.2.2.2.2 (lw_V q2608 q2609 q2610 q138 q2611) rfl rfl rfl (by decide +kernel) ⟨(Nat.le_of_ble_eq_true rfl), (Nat.le_of_ble_eq_true rfl)⟩) g4 rfl rfl hl.1 rfl (by simp [va_rf_cat, jcI, jcA, jcJ, jcD, jcF]) dX0_bestEmpty_4 (fun v4 S4 h4 => ?_) (fun k4 q4 S4 h4 => ?_)
  · refine J.geq (g2 := F0 m 7 ls [.int v4, .int 0, va_rf a2]) rfl ?_
    refine J.pu (fun _ _ _ _ k => lv_i2l (v := v4.toInt64) X.1.1 X.1.2.1 dX0_bestEmpty_7 rfl k) ?_
    refine J.sJ' X dX0_bestEmpty_8 (fun S8 h8 => ?_)
    refine J.pu (fun _ _ _ _ k => lv_goto (tgt := 15) X.1.1 X.1.2.1 dX0_bestEmpty_9 (by decide) k) ?_
    refine J.pu (fun _ _ _ _ k => lv_iconst (v := 0) X.1.1 X.1.2.1 dX0_bestEmpty_15 (by decide) k) ?_
    exact J.iret (vr := fun t : Int32 × jH => jrI t.1) (fin := Prod.snd) (t := t) X hr (by rfl) (by rfl) dX0_bestEmpty_16
  · refine Jx.ite (fun k4_0 => ?_) (fun k4_0 => ?_)
    · refine Jx.catch_ (E := "java/lang/IllegalArgumentException") (nm := "java/lang/IllegalArgumentException") X k4_0 rfl [] (⟨0, 9, 12, 13⟩ : ExceptionTableEntry) [] (htab.trans rfl) jnil_all rfl (by decide) q2385 jnc0 ?_
      refine J.astore_n (r := (some q4)) (i := 3) (lv' := [(3, va_rf (some q4)), (0, va_rf a0), (1, .int a1), (2, va_rf a2)]) X.1.1 X.1.2.1 dX0_bestEmpty_12 rfl hl (by decide) (by first | rfl | simp [va_rf_cat, jcI, jcA, jcJ, jcD, jcF]) (fun ls hl => ?_)
      refine J.pu (fun _ _ _ _ k => lv_iconst (v := 1) X.1.1 X.1.2.1 dX0_bestEmpty_13 (by decide) k) ?_
      exact J.iret (vr := fun t : Int32 × jH => jrI t.1) (fin := Prod.snd) (t := t) X hr (by rfl) (by rfl) dX0_bestEmpty_14
    exact Jx.nil_
noncomputable def X0_missortsIf_b (G : jG) (n : Nat) (σ : jH) (a0 : Option Nat) (a1 : Int32) (a2 : Int32) (a3 : Int32) (a4 : Option Nat) : Option (Int32 × jH) :=
  (rc σ a0 0).bind fun o7 => tc (X1_missortsIf G n σ o7 a1 a2 a3) (fun v7 S7 => (sJ G S7 a4 0 v7.toInt64).bind fun S11 => some (0, S11)) (fun k7 q7 S7 => if k7 = 0 then (some (2, S7)) else if k7 = 2 then (some (1, S7)) else none)
noncomputable def X0_missortsIf (G : jG) (n : Nat) (σ : jH) (a0 : Option Nat) (a1 : Int32) (a2 : Int32) (a3 : Int32) (a4 : Option Nat) : Option (Int32 × jH) := jck σ (X0_missortsIf_b G n σ a0 a1 a2 a3 a4)
set_option maxHeartbeats 4000000 in
set_option maxRecDepth 100000 in
theorem ct_X0_missortsIf (l : Launch) (hfl : l.stackTraces = false) (G : jG) (n : Nat) (σ : jH) (a0 : Option Nat) (a1 : Int32) (a2 : Int32) (a3 : Int32) (a4 : Option Nat) : jCt l G yX0_missortsIf (wsW_ yX0_missortsIf cX0_missortsIf 6 (some .int) [(0, 12, 15, 22), (0, 12, 19, 13)]) 28 1385 jrI [va_rf a0, .int a1, .int a2, .int a3, va_rf a4] σ (X0_missortsIf G n σ a0 a1 a2 a3 a4) := by
  refine jCt.wrH (hh := [(0, 12, 15, 22), (0, 12, 19, 13)]) (lv := [(0, va_rf a0), (1, .int a1), (2, .int a2), (3, .int a3), (4, va_rf a4)]) (plainFor_of_name (by decide)) (by simp [lg_sl, va_rf_cat, jcI, jcA, jcJ, jcD, jcF]) (by simp [lv_args, va_rf_cat, jcI, jcA, jcJ, jcD, jcF]) ?_
  intro t p e s m args below meth c ls X hr hnm htab hl
  have X : jCx p c cX0_missortsIf 6 s m args RX0 G meth := X
  unfold X0_missortsIf_b
  refine J.pu (fun _ _ _ _ k => W.rload X.1.1 X.1.2.1 dX0_missortsIf_0 (lv_at hl 4 rfl) k) ?_
  refine J.pu (fun _ _ _ _ k => lv_iconst (v := 0) X.1.1 X.1.2.1 dX0_missortsIf_2 (by decide) k) ?_
  refine J.pu (fun _ _ _ _ k => W.rload_n X.1.1 X.1.2.1 dX0_missortsIf_3 rfl (lv_at hl 0 rfl) k) ?_
  refine J.pu (fun _ _ _ _ k => lv_iload_n X.1.1 X.1.2.1 dX0_missortsIf_4 rfl (lv_at hl 1 rfl) k) ?_
  refine J.pu (fun _ _ _ _ k => lv_iload_n X.1.1 X.1.2.1 dX0_missortsIf_5 rfl (lv_at hl 2 rfl) k) ?_
  refine J.pu (fun _ _ _ _ k => lv_iload_n X.1.1 X.1.2.1 dX0_missortsIf_6 rfl (lv_at hl 3 rfl) k) ?_
  refine J.bind (fun o7 g7 => ?_)
  refine J.hV (q := (RX1, TX1, 9)) (ci := 0) (As := [.int a1, .int a2, .int a3]) (rest := [.int 0, va_rf a4]) X ⟨rfl, rfl⟩ (ct_X1_missortsIf l hfl G n σ o7 a1 a2 a3) (fun _ _ => cwV 3 X.1.2.2.2.2 (lw_V q2615 q2616 q2617 q138 q2618) rfl rfl rfl (by decide +kernel) ⟨(Nat.le_of_ble_eq_true rfl), (Nat.le_of_ble_eq_true rfl)⟩) g7 rfl rfl hl.1 rfl (by simp [va_rf_cat, jcI, jcA, jcJ, jcD, jcF]) dX0_missortsIf_7 (fun v7 S7 h7 => ?_) (fun k7 q7 S7 h7 => ?_)
  · refine J.geq (g2 := F0 m 10 ls [.int v7, .int 0, va_rf a4]) rfl ?_
    refine J.pu (fun _ _ _ _ k => lv_i2l (v := v7.toInt64) X.1.1 X.1.2.1 dX0_missortsIf_10 rfl k) ?_
    refine J.sJ' X dX0_missortsIf_11 (fun S11 h11 => ?_)
    refine J.pu (fun _ _ _ _ k => lv_goto (tgt := 23) X.1.1 X.1.2.1 dX0_missortsIf_12 (by decide) k) ?_
    refine J.pu (fun _ _ _ _ k => lv_iconst (v := 0) X.1.1 X.1.2.1 dX0_missortsIf_23 (by decide) k) ?_
    exact J.iret (vr := fun t : Int32 × jH => jrI t.1) (fin := Prod.snd) (t := t) X hr (by rfl) (by rfl) dX0_missortsIf_24
  · refine Jx.ite (fun k7_0 => ?_) (fun k7_0 => ?_)
    · refine Jx.catch_ (E := "java/lang/IllegalArgumentException") (nm := "java/lang/IllegalArgumentException") X k7_0 rfl [(⟨0, 12, 15, 22⟩ : ExceptionTableEntry)] (⟨0, 12, 19, 13⟩ : ExceptionTableEntry) [] (htab.trans rfl) (List.forall_mem_cons.mpr ⟨(Or.inr ⟨by decide, "java/lang/IndexOutOfBoundsException", q2420, List.mem_of_getElem? (i := 0) rfl⟩), jnil_all⟩) rfl (by decide) q2385 jnc0 ?_
      refine J.astore (r := (some q7)) (lv' := [(5, va_rf (some q7)), (0, va_rf a0), (1, .int a1), (2, .int a2), (3, .int a3), (4, va_rf a4)]) X.1.1 X.1.2.1 dX0_missortsIf_19 hl (by decide) (by first | rfl | simp [va_rf_cat, jcI, jcA, jcJ, jcD, jcF]) (fun ls hl => ?_)
      refine J.pu (fun _ _ _ _ k => lv_iconst (v := 2) X.1.1 X.1.2.1 dX0_missortsIf_21 (by decide) k) ?_
      exact J.iret (vr := fun t : Int32 × jH => jrI t.1) (fin := Prod.snd) (t := t) X hr (by rfl) (by rfl) dX0_missortsIf_22
    refine Jx.ite (fun k7_2 => ?_) (fun k7_2 => ?_)
    · refine Jx.catch_ (E := "java/lang/IndexOutOfBoundsException") (nm := "java/lang/IndexOutOfBoundsException") X k7_2 rfl [] (⟨0, 12, 15, 22⟩ : ExceptionTableEntry) [(⟨0, 12, 19, 13⟩ : ExceptionTableEntry)] (htab.trans rfl) jnil_all rfl (by decide) q2420 jnc4 ?_
      refine J.astore (r := (some q7)) (lv' := [(5, va_rf (some q7)), (0, va_rf a0), (1, .int a1), (2, .int a2), (3, .int a3), (4, va_rf a4)]) X.1.1 X.1.2.1 dX0_missortsIf_15 hl (by decide) (by first | rfl | simp [va_rf_cat, jcI, jcA, jcJ, jcD, jcF]) (fun ls hl => ?_)
      refine J.pu (fun _ _ _ _ k => lv_iconst (v := 1) X.1.1 X.1.2.1 dX0_missortsIf_17 (by decide) k) ?_
      exact J.iret (vr := fun t : Int32 × jH => jrI t.1) (fin := Prod.snd) (t := t) X hr (by rfl) (by rfl) dX0_missortsIf_18
    exact Jx.nil_
noncomputable def X0_tick_b (G : jG) (n : Nat) (σ : jH) (a0 : Option Nat) (a1 : Int32) (a2 : Option Nat) : Option (Int32 × jH) :=
  (rc σ a0 0).bind fun o4 => tc (X1_tick G n σ o4 a1) (fun v4 S4 => (sJ G S4 a2 0 v4.toInt64).bind fun S8 => some (0, S8)) (fun k4 q4 S4 => if k4 = 0 then (some (1, S4)) else if k4 = 1 then (some (2, S4)) else none)
noncomputable def X0_tick (G : jG) (n : Nat) (σ : jH) (a0 : Option Nat) (a1 : Int32) (a2 : Option Nat) : Option (Int32 × jH) := jck σ (X0_tick_b G n σ a0 a1 a2)
set_option maxHeartbeats 4000000 in
set_option maxRecDepth 100000 in
theorem ct_X0_tick (l : Launch) (hfl : l.stackTraces = false) (G : jG) (n : Nat) (σ : jH) (a0 : Option Nat) (a1 : Int32) (a2 : Option Nat) : jCt l G yX0_tick (wsW_ yX0_tick cX0_tick 4 (some .int) [(0, 9, 12, 13), (0, 9, 15, 73)]) 28 1379 jrI [va_rf a0, .int a1, va_rf a2] σ (X0_tick G n σ a0 a1 a2) := by
  refine jCt.wrH (hh := [(0, 9, 12, 13), (0, 9, 15, 73)]) (lv := [(0, va_rf a0), (1, .int a1), (2, va_rf a2)]) (plainFor_of_name (by decide)) (by simp [lg_sl, va_rf_cat, jcI, jcA, jcJ, jcD, jcF]) (by simp [lv_args, va_rf_cat, jcI, jcA, jcJ, jcD, jcF]) ?_
  intro t p e s m args below meth c ls X hr hnm htab hl
  have X : jCx p c cX0_tick 4 s m args RX0 G meth := X
  unfold X0_tick_b
  refine J.pu (fun _ _ _ _ k => W.rload_n X.1.1 X.1.2.1 dX0_tick_0 rfl (lv_at hl 2 rfl) k) ?_
  refine J.pu (fun _ _ _ _ k => lv_iconst (v := 0) X.1.1 X.1.2.1 dX0_tick_1 (by decide) k) ?_
  refine J.pu (fun _ _ _ _ k => W.rload_n X.1.1 X.1.2.1 dX0_tick_2 rfl (lv_at hl 0 rfl) k) ?_
  refine J.pu (fun _ _ _ _ k => lv_iload_n X.1.1 X.1.2.1 dX0_tick_3 rfl (lv_at hl 1 rfl) k) ?_
  refine J.bind (fun o4 g4 => ?_)
  refine J.hV (q := (RX1, TX1, 9)) (ci := 0) (As := [.int a1]) (rest := [.int 0, va_rf a2]) X ⟨rfl, rfl⟩ (ct_X1_tick l hfl G n σ o4 a1) (fun _ _ => cwV 1 X.1.2.2.2.2 (lw_V q2642 q2643 q2644 q138 q2645) rfl rfl rfl (by decide +kernel) ⟨(Nat.le_of_ble_eq_true rfl), (Nat.le_of_ble_eq_true rfl)⟩) g4 rfl rfl hl.1 rfl (by simp [va_rf_cat, jcI, jcA, jcJ, jcD, jcF]) dX0_tick_4 (fun v4 S4 h4 => ?_) (fun k4 q4 S4 h4 => ?_)
  · refine J.geq (g2 := F0 m 7 ls [.int v4, .int 0, va_rf a2]) rfl ?_
    refine J.pu (fun _ _ _ _ k => lv_i2l (v := v4.toInt64) X.1.1 X.1.2.1 dX0_tick_7 rfl k) ?_
    refine J.sJ' X dX0_tick_8 (fun S8 h8 => ?_)
    refine J.pu (fun _ _ _ _ k => lv_goto (tgt := 18) X.1.1 X.1.2.1 dX0_tick_9 (by decide) k) ?_
    refine J.pu (fun _ _ _ _ k => lv_iconst (v := 0) X.1.1 X.1.2.1 dX0_tick_18 (by decide) k) ?_
    exact J.iret (vr := fun t : Int32 × jH => jrI t.1) (fin := Prod.snd) (t := t) X hr (by rfl) (by rfl) dX0_tick_19
  · refine Jx.ite (fun k4_0 => ?_) (fun k4_0 => ?_)
    · refine Jx.catch_ (E := "java/lang/IllegalArgumentException") (nm := "java/lang/IllegalArgumentException") X k4_0 rfl [] (⟨0, 9, 12, 13⟩ : ExceptionTableEntry) [(⟨0, 9, 15, 73⟩ : ExceptionTableEntry)] (htab.trans rfl) jnil_all rfl (by decide) q2385 jnc0 ?_
      refine J.astore_n (r := (some q4)) (i := 3) (lv' := [(3, va_rf (some q4)), (0, va_rf a0), (1, .int a1), (2, va_rf a2)]) X.1.1 X.1.2.1 dX0_tick_12 rfl hl (by decide) (by first | rfl | simp [va_rf_cat, jcI, jcA, jcJ, jcD, jcF]) (fun ls hl => ?_)
      refine J.pu (fun _ _ _ _ k => lv_iconst (v := 1) X.1.1 X.1.2.1 dX0_tick_13 (by decide) k) ?_
      exact J.iret (vr := fun t : Int32 × jH => jrI t.1) (fin := Prod.snd) (t := t) X hr (by rfl) (by rfl) dX0_tick_14
    refine Jx.ite (fun k4_1 => ?_) (fun k4_1 => ?_)
    · refine Jx.catch_ (E := "java/lang/IllegalStateException") (nm := "java/lang/IllegalStateException") X k4_1 rfl [(⟨0, 9, 12, 13⟩ : ExceptionTableEntry)] (⟨0, 9, 15, 73⟩ : ExceptionTableEntry) [] (htab.trans rfl) (List.forall_mem_cons.mpr ⟨(Or.inr ⟨by decide, "java/lang/IllegalArgumentException", q2385, List.mem_of_getElem? (i := 2) rfl⟩), jnil_all⟩) rfl (by decide) q2624 jnc13 ?_
      refine J.astore_n (r := (some q4)) (i := 3) (lv' := [(3, va_rf (some q4)), (0, va_rf a0), (1, .int a1), (2, va_rf a2)]) X.1.1 X.1.2.1 dX0_tick_15 rfl hl (by decide) (by first | rfl | simp [va_rf_cat, jcI, jcA, jcJ, jcD, jcF]) (fun ls hl => ?_)
      refine J.pu (fun _ _ _ _ k => lv_iconst (v := 2) X.1.1 X.1.2.1 dX0_tick_16 (by decide) k) ?_
      exact J.iret (vr := fun t : Int32 × jH => jrI t.1) (fin := Prod.snd) (t := t) X hr (by rfl) (by rfl) dX0_tick_17
    exact Jx.nil_
noncomputable def X1_plays_h7 (G : jG) (n : Nat) (this : Nat) (a1 : Option Nat) (x2_7 : Option Nat) (rec7 : Int32 × jH → Option (Int32 × jH)) (q7 : Int32 × jH) : Option (Int32 × jH) :=
  let x3_7 := q7.1; let B7 := q7.2; (rc B7 a1 15).bind fun o9 => (lSize 0 B7 o9).bind fun v9 => if v9 ≤ x3_7 then (some (x3_7, B7)) else ((rc B7 a1 15).bind fun o19 => (lGet 0 B7 o19 x3_7).bind fun v19 => (jck' B7 v19 [9, 10, 11, 12, 13, 14]).bind fun _ => if (rc B7 v19 9).isSome = true then ((rc B7 v19 9).bind fun o28 => bd (X12_does G n B7 o28 x2_7) fun v28 S28 => if v28 = 0 then (some (x3_7, S28)) else (rec7 ((x3_7 + 1), S28))) else if (rc B7 v19 10).isSome = true then ((rc B7 v19 10).bind fun o28 => bd (X13_does G n B7 o28 x2_7) fun v28 S28 => if v28 = 0 then (some (x3_7, S28)) else (rec7 ((x3_7 + 1), S28))) else if (rc B7 v19 11).isSome = true then ((rc B7 v19 11).bind fun o28 => bd (X14_does G n B7 o28 x2_7) fun v28 S28 => if v28 = 0 then (some (x3_7, S28)) else (rec7 ((x3_7 + 1), S28))) else if (rc B7 v19 12).isSome = true then ((rc B7 v19 12).bind fun o28 => bd (X15_does G n B7 o28 x2_7) fun v28 S28 => if v28 = 0 then (some (x3_7, S28)) else (rec7 ((x3_7 + 1), S28))) else if (rc B7 v19 13).isSome = true then ((rc B7 v19 13).bind fun o28 => bd (X16_does G n B7 o28 x2_7) fun v28 S28 => if v28 = 0 then (some (x3_7, S28)) else (rec7 ((x3_7 + 1), S28))) else if (rc B7 v19 14).isSome = true then ((rc B7 v19 14).bind fun o28 => bd (X17_does G n B7 o28 x2_7) fun v28 S28 => if v28 = 0 then (some (x3_7, S28)) else (rec7 ((x3_7 + 1), S28))) else none)
noncomputable def X1_plays_b (G : jG) (n : Nat) (σ : jH) (this : Nat) (a1 : Option Nat) : Option (Int32 × jH) :=
  (rc σ (some this) 0).bind fun o1 => bd (X1_changed G n σ o1) fun v1 S1 => jloop (X1_plays_h7 G n this a1 v1) n (0, S1)
noncomputable def X1_plays (G : jG) (n : Nat) (σ : jH) (this : Nat) (a1 : Option Nat) : Option (Int32 × jH) := jck σ (X1_plays_b G n σ this a1)
set_option maxHeartbeats 4000000 in
set_option maxRecDepth 100000 in
theorem ct_X1_plays (l : Launch) (G : jG) (n : Nat) (σ : jH) (this : Nat) (a1 : Option Nat) : jCt l G yX1_plays (ws_ yX1_plays cX1_plays 4 (some .int)) 28 1379 jrI [.ref this, va_rf a1] σ (X1_plays G n σ this a1) := by
  refine jCt.wr (lv := [(0, .ref this), (1, va_rf a1)]) (plainFor_of_name (by decide)) (by simp [lg_sl, va_rf_cat, jcI, jcA, jcJ, jcD, jcF]) (by simp [lv_args, va_rf_cat, jcI, jcA, jcJ, jcD, jcF]) ?_
  intro t p e s m args below meth c ls X hr hnm hl
  have X : jCx p c cX1_plays 4 s m args RX1 G meth := X
  have L7 : ∀ (x2_7 : Option Nat) (n7 : Nat) (x3_7 : Int32) (B7 : jH) (ls : Array Slot), lv_has ls 4 [(1, va_rf a1), (2, va_rf x2_7), (3, .int x3_7)] → jGo l G 28 1379 σ (Prod.snd : Int32 × jH → jH) (fun t => jrI t.1) t p e s m args below meth c (jloop (X1_plays_h7 G n this a1 x2_7) n7 (x3_7, B7)) B7 (F0 m 7 ls []) := by
    intro x2_7
    intro n7
    induction n7 with
    | zero => intro x3_7 B7 ls hl; exact J.nil_
    | succ n7 ih7 =>
      intro x3_7 B7 ls hl
      refine J.eq (jloop_s _ _ _) ?_
      dsimp only [X1_plays_h7]
      refine J.pu (fun _ _ _ _ k => lv_iload_n X.1.1 X.1.2.1 dX1_plays_7 rfl (lv_at hl 2 rfl) k) ?_
      refine J.pu (fun _ _ _ _ k => W.rload_n X.1.1 X.1.2.1 dX1_plays_8 rfl (lv_at hl 0 rfl) k) ?_
      refine J.bind (fun o9 g9 => ?_)
      refine J.bind (fun v9 h9 => ?_)
      refine J.cF (q := (RJ2, TJ2, 3)) (ci := 15) (As := []) (rest := [.int x3_7]) (s2 := [.int v9, .int x3_7]) X ⟨rfl, rfl⟩ (ct_J2_size l G B7 o9) (jrd_of h9) (fun _ _ => va_cwF 0 X.1.2.2.2.2 (lw_F q1751 q832 q834 q142 q836) rfl rfl rfl (jfw2 X.2.1) (by decide +kernel) ⟨(Nat.le_of_ble_eq_true rfl), (Nat.le_of_ble_eq_true rfl)⟩) g9 rfl rfl hl.1 rfl rfl (Nat.le_of_ble_eq_true rfl) dX1_plays_9 ?_
      refine J.br (fun _ _ _ _ ka kb => lv_icmp_ge (tgt := 40) X.1.1 X.1.2.1 dX1_plays_14 (by decide) ka kb) (fun c14 => ?_) (fun c14 => ?_)
      · refine J.pu (fun _ _ _ _ k => lv_iload_n X.1.1 X.1.2.1 dX1_plays_40 rfl (lv_at hl 2 rfl) k) ?_
        exact J.iret (vr := fun t : Int32 × jH => jrI t.1) (fin := Prod.snd) (t := t) X hr (by rfl) (by rfl) dX1_plays_41
      · refine J.pu (fun _ _ _ _ k => W.rload_n X.1.1 X.1.2.1 dX1_plays_17 rfl (lv_at hl 0 rfl) k) ?_
        refine J.pu (fun _ _ _ _ k => lv_iload_n X.1.1 X.1.2.1 dX1_plays_18 rfl (lv_at hl 2 rfl) k) ?_
        refine J.bind (fun o19 g19 => ?_)
        refine J.bind (fun v19 h19 => ?_)
        refine J.cF (q := (RJ2, TJ2, 3)) (ci := 15) (As := [.int x3_7]) (rest := []) (s2 := [va_rf v19]) X ⟨rfl, rfl⟩ (ct_J2_get l G B7 o19 x3_7) (jrd_of h19) (fun _ _ => va_cwF 1 X.1.2.2.2.2 (lw_F q1956 q851 q853 q142 q855) rfl rfl rfl (jfw4 X.2.1) (by decide +kernel) ⟨(Nat.le_of_ble_eq_true rfl), (Nat.le_of_ble_eq_true rfl)⟩) g19 rfl rfl hl.1 rfl rfl (Nat.le_of_ble_eq_true rfl) dX1_plays_19 ?_
        refine J.cast (nm := "SortingLoop$Deed") X q1957 (List.forall_mem_cons.mpr ⟨⟨_, rfl, Or.inr jnc22⟩, (List.forall_mem_cons.mpr ⟨⟨_, rfl, Or.inr jnc25⟩, (List.forall_mem_cons.mpr ⟨⟨_, rfl, Or.inr jnc24⟩, (List.forall_mem_cons.mpr ⟨⟨_, rfl, Or.inr jnc20⟩, (List.forall_mem_cons.mpr ⟨⟨_, rfl, Or.inr jnc21⟩, (List.forall_mem_cons.mpr ⟨⟨_, rfl, Or.inr jnc23⟩, jnil_all⟩)⟩)⟩)⟩)⟩)⟩) dX1_plays_24 ?_
        refine J.pu (fun _ _ _ _ k => W.rload_n X.1.1 X.1.2.1 dX1_plays_27 rfl (lv_at hl 1 rfl) k) ?_
        refine J.ite (fun c28_0 => ?_) (fun c28_0 => ?_)
        · refine J.bind (fun o28 g28 => ?_)
          refine J.bd' (fun v28 S28 h28 => ?_)
          refine J.cU (q := (RX12, TX12, 2)) (ci := 9) (As := [va_rf x2_7]) (rest := []) (s2 := [.int v28]) X ⟨rfl, rfl⟩ (ct_X12_does l G n B7 o28 x2_7) h28 (fun _ _ => va_cwA (owner := "SortingLoop$Deed") 1 X.1.2.2.2.2 (lw_U q1958 q1960 q1992 q1993 q184 q1994) rfl rfl rfl (X.2.1.2.2.2.2.2.2.2.2.2.2.2.1 ⟨"SortingLoop$Deed", "does", "(LSortingLoop$Loop;)Z"⟩ (List.mem_of_getElem? (i := 31) rfl)) (by decide +kernel) ⟨(Nat.le_of_ble_eq_true rfl), (Nat.le_of_ble_eq_true rfl)⟩) g28 rfl rfl hl.1 rfl rfl (Nat.le_of_ble_eq_true rfl) dX1_plays_28 ?_
          refine J.br (fun _ _ _ _ ka kb => lv_if_eq (tgt := 40) X.1.1 X.1.2.1 dX1_plays_31 (by decide) ka kb) (fun c31 => ?_) (fun c31 => ?_)
          · refine J.pu (fun _ _ _ _ k => lv_iload_n X.1.1 X.1.2.1 dX1_plays_40 rfl (lv_at hl 2 rfl) k) ?_
            exact J.iret (vr := fun t : Int32 × jH => jrI t.1) (fin := Prod.snd) (t := t) X hr (by rfl) (by rfl) dX1_plays_41
          · refine J.iinc (k := 2) (lv' := [(3, .int (x3_7 + 1)), (1, va_rf a1), (2, va_rf x2_7)]) (w := (x3_7 + 1)) X.1.1 X.1.2.1 dX1_plays_34 hl rfl rfl (by decide) (by first | rfl | simp [va_rf_cat, jcI, jcA, jcJ, jcD, jcF]) (fun ls hl => ?_)
            refine J.pu (fun _ _ _ _ k => lv_goto (tgt := 7) X.1.1 X.1.2.1 dX1_plays_37 (by decide) k) ?_
            exact ih7 (x3_7 + 1) S28 ls (lv_sub hl [1, 2, 0] rfl)
        refine J.ite (fun c28_1 => ?_) (fun c28_1 => ?_)
        · refine J.bind (fun o28 g28 => ?_)
          refine J.bd' (fun v28 S28 h28 => ?_)
          refine J.cU (q := (RX13, TX13, 2)) (ci := 10) (As := [va_rf x2_7]) (rest := []) (s2 := [.int v28]) X ⟨rfl, rfl⟩ (ct_X13_does l G n B7 o28 x2_7) h28 (fun _ _ => va_cwA (owner := "SortingLoop$Deed") 1 X.1.2.2.2.2 (lw_U q1958 q1960 q2046 q2047 q185 q2048) rfl rfl rfl (X.2.1.2.2.2.2.2.2.2.2.2.2.2.1 ⟨"SortingLoop$Deed", "does", "(LSortingLoop$Loop;)Z"⟩ (List.mem_of_getElem? (i := 31) rfl)) (by decide +kernel) ⟨(Nat.le_of_ble_eq_true rfl), (Nat.le_of_ble_eq_true rfl)⟩) g28 rfl rfl hl.1 rfl rfl (Nat.le_of_ble_eq_true rfl) dX1_plays_28 ?_
          refine J.br (fun _ _ _ _ ka kb => lv_if_eq (tgt := 40) X.1.1 X.1.2.1 dX1_plays_31 (by decide) ka kb) (fun c31 => ?_) (fun c31 => ?_)
          · refine J.pu (fun _ _ _ _ k => lv_iload_n X.1.1 X.1.2.1 dX1_plays_40 rfl (lv_at hl 2 rfl) k) ?_
            exact J.iret (vr := fun t : Int32 × jH => jrI t.1) (fin := Prod.snd) (t := t) X hr (by rfl) (by rfl) dX1_plays_41
          · refine J.iinc (k := 2) (lv' := [(3, .int (x3_7 + 1)), (1, va_rf a1), (2, va_rf x2_7)]) (w := (x3_7 + 1)) X.1.1 X.1.2.1 dX1_plays_34 hl rfl rfl (by decide) (by first | rfl | simp [va_rf_cat, jcI, jcA, jcJ, jcD, jcF]) (fun ls hl => ?_)
            refine J.pu (fun _ _ _ _ k => lv_goto (tgt := 7) X.1.1 X.1.2.1 dX1_plays_37 (by decide) k) ?_
            exact ih7 (x3_7 + 1) S28 ls (lv_sub hl [1, 2, 0] rfl)
        refine J.ite (fun c28_2 => ?_) (fun c28_2 => ?_)
        · refine J.bind (fun o28 g28 => ?_)
          refine J.bd' (fun v28 S28 h28 => ?_)
          refine J.cU (q := (RX14, TX14, 2)) (ci := 11) (As := [va_rf x2_7]) (rest := []) (s2 := [.int v28]) X ⟨rfl, rfl⟩ (ct_X14_does l G n B7 o28 x2_7) h28 (fun _ _ => va_cwA (owner := "SortingLoop$Deed") 1 X.1.2.2.2.2 (lw_U q1958 q1960 q2029 q2030 q186 q2031) rfl rfl rfl (X.2.1.2.2.2.2.2.2.2.2.2.2.2.1 ⟨"SortingLoop$Deed", "does", "(LSortingLoop$Loop;)Z"⟩ (List.mem_of_getElem? (i := 31) rfl)) (by decide +kernel) ⟨(Nat.le_of_ble_eq_true rfl), (Nat.le_of_ble_eq_true rfl)⟩) g28 rfl rfl hl.1 rfl rfl (Nat.le_of_ble_eq_true rfl) dX1_plays_28 ?_
          refine J.br (fun _ _ _ _ ka kb => lv_if_eq (tgt := 40) X.1.1 X.1.2.1 dX1_plays_31 (by decide) ka kb) (fun c31 => ?_) (fun c31 => ?_)
          · refine J.pu (fun _ _ _ _ k => lv_iload_n X.1.1 X.1.2.1 dX1_plays_40 rfl (lv_at hl 2 rfl) k) ?_
            exact J.iret (vr := fun t : Int32 × jH => jrI t.1) (fin := Prod.snd) (t := t) X hr (by rfl) (by rfl) dX1_plays_41
          · refine J.iinc (k := 2) (lv' := [(3, .int (x3_7 + 1)), (1, va_rf a1), (2, va_rf x2_7)]) (w := (x3_7 + 1)) X.1.1 X.1.2.1 dX1_plays_34 hl rfl rfl (by decide) (by first | rfl | simp [va_rf_cat, jcI, jcA, jcJ, jcD, jcF]) (fun ls hl => ?_)
            refine J.pu (fun _ _ _ _ k => lv_goto (tgt := 7) X.1.1 X.1.2.1 dX1_plays_37 (by decide) k) ?_
            exact ih7 (x3_7 + 1) S28 ls (lv_sub hl [1, 2, 0] rfl)
        refine J.ite (fun c28_3 => ?_) (fun c28_3 => ?_)
        · refine J.bind (fun o28 g28 => ?_)
          refine J.bd' (fun v28 S28 h28 => ?_)
          refine J.cU (q := (RX15, TX15, 2)) (ci := 12) (As := [va_rf x2_7]) (rest := []) (s2 := [.int v28]) X ⟨rfl, rfl⟩ (ct_X15_does l G n B7 o28 x2_7) h28 (fun _ _ => va_cwA (owner := "SortingLoop$Deed") 1 X.1.2.2.2.2 (lw_U q1958 q1960 q1961 q1962 q187 q1963) rfl rfl rfl (X.2.1.2.2.2.2.2.2.2.2.2.2.2.1 ⟨"SortingLoop$Deed", "does", "(LSortingLoop$Loop;)Z"⟩ (List.mem_of_getElem? (i := 31) rfl)) (by decide +kernel) ⟨(Nat.le_of_ble_eq_true rfl), (Nat.le_of_ble_eq_true rfl)⟩) g28 rfl rfl hl.1 rfl rfl (Nat.le_of_ble_eq_true rfl) dX1_plays_28 ?_
          refine J.br (fun _ _ _ _ ka kb => lv_if_eq (tgt := 40) X.1.1 X.1.2.1 dX1_plays_31 (by decide) ka kb) (fun c31 => ?_) (fun c31 => ?_)
          · refine J.pu (fun _ _ _ _ k => lv_iload_n X.1.1 X.1.2.1 dX1_plays_40 rfl (lv_at hl 2 rfl) k) ?_
            exact J.iret (vr := fun t : Int32 × jH => jrI t.1) (fin := Prod.snd) (t := t) X hr (by rfl) (by rfl) dX1_plays_41
          · refine J.iinc (k := 2) (lv' := [(3, .int (x3_7 + 1)), (1, va_rf a1), (2, va_rf x2_7)]) (w := (x3_7 + 1)) X.1.1 X.1.2.1 dX1_plays_34 hl rfl rfl (by decide) (by first | rfl | simp [va_rf_cat, jcI, jcA, jcJ, jcD, jcF]) (fun ls hl => ?_)
            refine J.pu (fun _ _ _ _ k => lv_goto (tgt := 7) X.1.1 X.1.2.1 dX1_plays_37 (by decide) k) ?_
            exact ih7 (x3_7 + 1) S28 ls (lv_sub hl [1, 2, 0] rfl)
        refine J.ite (fun c28_4 => ?_) (fun c28_4 => ?_)
        · refine J.bind (fun o28 g28 => ?_)
          refine J.bd' (fun v28 S28 h28 => ?_)
          refine J.cU (q := (RX16, TX16, 2)) (ci := 13) (As := [va_rf x2_7]) (rest := []) (s2 := [.int v28]) X ⟨rfl, rfl⟩ (ct_X16_does l G n B7 o28 x2_7) h28 (fun _ _ => va_cwA (owner := "SortingLoop$Deed") 1 X.1.2.2.2.2 (lw_U q1958 q1960 q1975 q1976 q188 q1977) rfl rfl rfl (X.2.1.2.2.2.2.2.2.2.2.2.2.2.1 ⟨"SortingLoop$Deed", "does", "(LSortingLoop$Loop;)Z"⟩ (List.mem_of_getElem? (i := 31) rfl)) (by decide +kernel) ⟨(Nat.le_of_ble_eq_true rfl), (Nat.le_of_ble_eq_true rfl)⟩) g28 rfl rfl hl.1 rfl rfl (Nat.le_of_ble_eq_true rfl) dX1_plays_28 ?_
          refine J.br (fun _ _ _ _ ka kb => lv_if_eq (tgt := 40) X.1.1 X.1.2.1 dX1_plays_31 (by decide) ka kb) (fun c31 => ?_) (fun c31 => ?_)
          · refine J.pu (fun _ _ _ _ k => lv_iload_n X.1.1 X.1.2.1 dX1_plays_40 rfl (lv_at hl 2 rfl) k) ?_
            exact J.iret (vr := fun t : Int32 × jH => jrI t.1) (fin := Prod.snd) (t := t) X hr (by rfl) (by rfl) dX1_plays_41
          · refine J.iinc (k := 2) (lv' := [(3, .int (x3_7 + 1)), (1, va_rf a1), (2, va_rf x2_7)]) (w := (x3_7 + 1)) X.1.1 X.1.2.1 dX1_plays_34 hl rfl rfl (by decide) (by first | rfl | simp [va_rf_cat, jcI, jcA, jcJ, jcD, jcF]) (fun ls hl => ?_)
            refine J.pu (fun _ _ _ _ k => lv_goto (tgt := 7) X.1.1 X.1.2.1 dX1_plays_37 (by decide) k) ?_
            exact ih7 (x3_7 + 1) S28 ls (lv_sub hl [1, 2, 0] rfl)
        refine J.ite (fun c28_5 => ?_) (fun c28_5 => ?_)
        · refine J.bind (fun o28 g28 => ?_)
          refine J.bd' (fun v28 S28 h28 => ?_)
          refine J.cU (q := (RX17, TX17, 2)) (ci := 14) (As := [va_rf x2_7]) (rest := []) (s2 := [.int v28]) X ⟨rfl, rfl⟩ (ct_X17_does l G n B7 o28 x2_7) h28 (fun _ _ => va_cwA (owner := "SortingLoop$Deed") 1 X.1.2.2.2.2 (lw_U q1958 q1960 q2016 q2017 q189 q2018) rfl rfl rfl (X.2.1.2.2.2.2.2.2.2.2.2.2.2.1 ⟨"SortingLoop$Deed", "does", "(LSortingLoop$Loop;)Z"⟩ (List.mem_of_getElem? (i := 31) rfl)) (by decide +kernel) ⟨(Nat.le_of_ble_eq_true rfl), (Nat.le_of_ble_eq_true rfl)⟩) g28 rfl rfl hl.1 rfl rfl (Nat.le_of_ble_eq_true rfl) dX1_plays_28 ?_
          refine J.br (fun _ _ _ _ ka kb => lv_if_eq (tgt := 40) X.1.1 X.1.2.1 dX1_plays_31 (by decide) ka kb) (fun c31 => ?_) (fun c31 => ?_)
          · refine J.pu (fun _ _ _ _ k => lv_iload_n X.1.1 X.1.2.1 dX1_plays_40 rfl (lv_at hl 2 rfl) k) ?_
            exact J.iret (vr := fun t : Int32 × jH => jrI t.1) (fin := Prod.snd) (t := t) X hr (by rfl) (by rfl) dX1_plays_41
          · refine J.iinc (k := 2) (lv' := [(3, .int (x3_7 + 1)), (1, va_rf a1), (2, va_rf x2_7)]) (w := (x3_7 + 1)) X.1.1 X.1.2.1 dX1_plays_34 hl rfl rfl (by decide) (by first | rfl | simp [va_rf_cat, jcI, jcA, jcJ, jcD, jcF]) (fun ls hl => ?_)
            refine J.pu (fun _ _ _ _ k => lv_goto (tgt := 7) X.1.1 X.1.2.1 dX1_plays_37 (by decide) k) ?_
            exact ih7 (x3_7 + 1) S28 ls (lv_sub hl [1, 2, 0] rfl)
        exact J.nil_
  unfold X1_plays_b
  refine J.pu (fun _ _ _ _ k => lv_aload_n X.1.1 X.1.2.1 dX1_plays_0 rfl (lv_at hl 0 rfl) k) ?_
  refine J.bind (fun o1 g1 => ?_)
  refine J.bd' (fun v1 S1 h1 => ?_)
  refine J.cV (q := (RX1, TX1, 9)) (ci := 0) (As := []) (rest := []) (s2 := [va_rf v1]) X ⟨rfl, rfl⟩ (ct_X1_changed l G n σ o1) h1 (fun _ _ => cwV 0 X.1.2.2.2.2 (lw_V q1902 q1904 qs29 q138 q1905) rfl rfl rfl (by decide +kernel) ⟨(Nat.le_of_ble_eq_true rfl), (Nat.le_of_ble_eq_true rfl)⟩) g1 rfl rfl hl.1 rfl rfl (Nat.le_of_ble_eq_true rfl) dX1_plays_1 ?_
  refine J.astore_n (r := v1) (i := 2) (lv' := [(2, va_rf v1), (0, .ref this), (1, va_rf a1)]) X.1.1 X.1.2.1 dX1_plays_4 rfl hl (by decide) (by first | rfl | simp [va_rf_cat, jcI, jcA, jcJ, jcD, jcF]) (fun ls hl => ?_)
  refine J.pu (fun _ _ _ _ k => lv_iconst (v := 0) X.1.1 X.1.2.1 dX1_plays_5 (by decide) k) ?_
  refine J.istore_n (i := 3) (lv' := [(3, .int 0), (2, va_rf v1), (0, .ref this), (1, va_rf a1)]) X.1.1 X.1.2.1 dX1_plays_6 rfl hl (by decide) (by first | rfl | simp [va_rf_cat, jcI, jcA, jcJ, jcD, jcF]) (fun ls hl => ?_)
  exact L7 v1 n 0 S1 ls (lv_sub hl [3, 1, 0] rfl)
noncomputable def X1_gainOf_b (G : jG) (n : Nat) (σ : jH) (this : Nat) (a1 : Int32) (a2 : Int32) : Option (jTh Int32 × jH) :=
  (rc σ (some this) 0).bind fun o2 => tb (X1_chuteAt G n σ o2 a1) fun v2 S2 => tb (X1_checkTicks G n S2 a2) fun v7 S7 => (rc S7 (some this) 0).bind fun o13 => bd (X1_sortedIf G n S7 o13 a1 a2) fun v13 S13 => (rc S13 (some this) 0).bind fun o19 => bd (X1_sortedIf G n S13 o19 (-1) a2) fun v19 S19 => some (.inl (v13 - v19), S19)
noncomputable def X1_gainOf (G : jG) (n : Nat) (σ : jH) (this : Nat) (a1 : Int32) (a2 : Int32) : Option (jTh Int32 × jH) := jck σ (X1_gainOf_b G n σ this a1 a2)
set_option maxHeartbeats 4000000 in
set_option maxRecDepth 100000 in
theorem ct_X1_gainOf (l : Launch) (hfl : l.stackTraces = false) (G : jG) (n : Nat) (σ : jH) (this : Nat) (a1 : Int32) (a2 : Int32) : jTt l G yX1_gainOf (ws_ yX1_gainOf cX1_gainOf 4 (some .int)) 28 1382 jrI [.ref this, .int a1, .int a2] σ (X1_gainOf G n σ this a1 a2) := by
  refine jTt.wr (lv := [(0, .ref this), (1, .int a1), (2, .int a2)]) rfl (Nat.le_of_ble_eq_true rfl) rfl ?_
  intro t p e s m args below meth c ls X hr hnm hout hl
  have X : jCx p c cX1_gainOf 4 s m args RX1 G meth := X
  unfold X1_gainOf_b
  refine J.pu (fun _ _ _ _ k => lv_aload_n X.1.1 X.1.2.1 dX1_gainOf_0 rfl (lv_at hl 0 rfl) k) ?_
  refine J.pu (fun _ _ _ _ k => lv_iload_n X.1.1 X.1.2.1 dX1_gainOf_1 rfl (lv_at hl 1 rfl) k) ?_
  refine J.bind (fun o2 g2 => ?_)
  refine J.tV (q := (RX1, TX1, 9)) (ci := 0) (As := [.int a1]) (rest := []) X hout ⟨rfl, rfl⟩ (ct_X1_chuteAt l hfl G n σ o2 a1) (fun _ _ => cwV 1 X.1.2.2.2.2 (lw_V q2465 q2467 qs48 q138 q2468) rfl rfl rfl (by decide +kernel) ⟨(Nat.le_of_ble_eq_true rfl), (Nat.le_of_ble_eq_true rfl)⟩) g2 rfl rfl hl.1 rfl (Nat.le_of_ble_eq_true rfl) dX1_gainOf_2 (fun v2 S2 h2 => ?_)
  refine J.geq (g2 := F0 m 5 ls [va_rf v2]) rfl ?_
  refine J.astore_n (r := v2) (i := 3) (lv' := [(3, va_rf v2), (0, .ref this), (1, .int a1), (2, .int a2)]) X.1.1 X.1.2.1 dX1_gainOf_5 rfl hl (by decide) (by first | rfl | simp [va_rf_cat, jcI, jcA, jcJ, jcD, jcF]) (fun ls hl => ?_)
  refine J.pu (fun _ _ _ _ k => lv_iload_n X.1.1 X.1.2.1 dX1_gainOf_6 rfl (lv_at hl 3 rfl) k) ?_
  refine J.tS (As := [.int a2]) (rest := []) X hout ⟨rfl, rfl⟩ (ct_X1_checkTicks l hfl G n S2 a2) (fun _ _ => va_cwS 1 X.1.2.2.2.2 (lw_S q2570 q2571 q138 q2572) rfl rfl rfl (by decide +kernel) ⟨(Nat.le_of_ble_eq_true rfl), (Nat.le_of_ble_eq_true rfl)⟩) rfl hl.1 rfl (Nat.le_of_ble_eq_true rfl) dX1_gainOf_7 (fun v7 S7 h7 => ?_)
  refine J.geq (g2 := F0 m 10 ls []) rfl ?_
  refine J.pu (fun _ _ _ _ k => lv_aload_n X.1.1 X.1.2.1 dX1_gainOf_10 rfl (lv_at hl 1 rfl) k) ?_
  refine J.pu (fun _ _ _ _ k => lv_iload_n X.1.1 X.1.2.1 dX1_gainOf_11 rfl (lv_at hl 2 rfl) k) ?_
  refine J.pu (fun _ _ _ _ k => lv_iload_n X.1.1 X.1.2.1 dX1_gainOf_12 rfl (lv_at hl 3 rfl) k) ?_
  refine J.bind (fun o13 g13 => ?_)
  refine J.bd' (fun v13 S13 h13 => ?_)
  refine J.cV (q := (RX1, TX1, 9)) (ci := 0) (As := [.int a1, .int a2]) (rest := []) (s2 := [.int v13]) X ⟨rfl, rfl⟩ (ct_X1_sortedIf l G n S7 o13 a1 a2) h13 (fun _ _ => cwV 2 X.1.2.2.2.2 (lw_V q2599 q2601 qs55 q138 q2602) rfl rfl rfl (by decide +kernel) ⟨(Nat.le_of_ble_eq_true rfl), (Nat.le_of_ble_eq_true rfl)⟩) g13 rfl rfl hl.1 rfl rfl (Nat.le_of_ble_eq_true rfl) dX1_gainOf_13 ?_
  refine J.pu (fun _ _ _ _ k => lv_aload_n X.1.1 X.1.2.1 dX1_gainOf_16 rfl (lv_at hl 1 rfl) k) ?_
  refine J.pu (fun _ _ _ _ k => lv_iconst (v := (-1)) X.1.1 X.1.2.1 dX1_gainOf_17 (by decide) k) ?_
  refine J.pu (fun _ _ _ _ k => lv_iload_n X.1.1 X.1.2.1 dX1_gainOf_18 rfl (lv_at hl 3 rfl) k) ?_
  refine J.bind (fun o19 g19 => ?_)
  refine J.bd' (fun v19 S19 h19 => ?_)
  refine J.cV (q := (RX1, TX1, 9)) (ci := 0) (As := [.int (-1), .int a2]) (rest := [.int v13]) (s2 := [.int v19, .int v13]) X ⟨rfl, rfl⟩ (ct_X1_sortedIf l G n S13 o19 (-1) a2) h19 (fun _ _ => cwV 2 X.1.2.2.2.2 (lw_V q2599 q2601 qs55 q138 q2602) rfl rfl rfl (by decide +kernel) ⟨(Nat.le_of_ble_eq_true rfl), (Nat.le_of_ble_eq_true rfl)⟩) g19 rfl rfl hl.1 rfl rfl (Nat.le_of_ble_eq_true rfl) dX1_gainOf_19 ?_
  refine J.pu (fun _ _ _ _ k => lv_isub X.1.1 X.1.2.1 dX1_gainOf_22 k) ?_
  exact J.tret (J.iret (vr := fun t : Int32 × jH => jrI t.1) (fin := (Prod.snd : Int32 × jH → jH)) (t := ((v13 - v19), S19)) X hr (by rfl) (by rfl) dX1_gainOf_23)
noncomputable def X0_gainOf_b (G : jG) (n : Nat) (σ : jH) (a0 : Option Nat) (a1 : Int32) (a2 : Int32) (a3 : Option Nat) : Option (Int32 × jH) :=
  (rc σ a0 0).bind fun o5 => tc (X1_gainOf G n σ o5 a1 a2) (fun v5 S5 => (sJ G S5 a3 0 v5.toInt64).bind fun S9 => some (0, S9)) (fun k5 q5 S5 => if k5 = 0 then (some (2, S5)) else if k5 = 2 then (some (1, S5)) else none)
noncomputable def X0_gainOf (G : jG) (n : Nat) (σ : jH) (a0 : Option Nat) (a1 : Int32) (a2 : Int32) (a3 : Option Nat) : Option (Int32 × jH) := jck σ (X0_gainOf_b G n σ a0 a1 a2 a3)
set_option maxHeartbeats 4000000 in
set_option maxRecDepth 100000 in
theorem ct_X0_gainOf (l : Launch) (hfl : l.stackTraces = false) (G : jG) (n : Nat) (σ : jH) (a0 : Option Nat) (a1 : Int32) (a2 : Int32) (a3 : Option Nat) : jCt l G yX0_gainOf (wsW_ yX0_gainOf cX0_gainOf 5 (some .int) [(0, 10, 13, 22), (0, 10, 17, 13)]) 29 1405 jrI [va_rf a0, .int a1, .int a2, va_rf a3] σ (X0_gainOf G n σ a0 a1 a2 a3) := by
  refine jCt.wrH (hh := [(0, 10, 13, 22), (0, 10, 17, 13)]) (lv := [(0, va_rf a0), (1, .int a1), (2, .int a2), (3, va_rf a3)]) (plainFor_of_name (by decide)) (by simp [lg_sl, va_rf_cat, jcI, jcA, jcJ, jcD, jcF]) (by simp [lv_args, va_rf_cat, jcI, jcA, jcJ, jcD, jcF]) ?_
  intro t p e s m args below meth c ls X hr hnm htab hl
  have X : jCx p c cX0_gainOf 5 s m args RX0 G meth := X
  unfold X0_gainOf_b
  refine J.pu (fun _ _ _ _ k => W.rload_n X.1.1 X.1.2.1 dX0_gainOf_0 rfl (lv_at hl 3 rfl) k) ?_
  refine J.pu (fun _ _ _ _ k => lv_iconst (v := 0) X.1.1 X.1.2.1 dX0_gainOf_1 (by decide) k) ?_
  refine J.pu (fun _ _ _ _ k => W.rload_n X.1.1 X.1.2.1 dX0_gainOf_2 rfl (lv_at hl 0 rfl) k) ?_
  refine J.pu (fun _ _ _ _ k => lv_iload_n X.1.1 X.1.2.1 dX0_gainOf_3 rfl (lv_at hl 1 rfl) k) ?_
  refine J.pu (fun _ _ _ _ k => lv_iload_n X.1.1 X.1.2.1 dX0_gainOf_4 rfl (lv_at hl 2 rfl) k) ?_
  refine J.bind (fun o5 g5 => ?_)
  refine J.hV (q := (RX1, TX1, 9)) (ci := 0) (As := [.int a1, .int a2]) (rest := [.int 0, va_rf a3]) X ⟨rfl, rfl⟩ (ct_X1_gainOf l hfl G n σ o5 a1 a2) (fun _ _ => cwV 2 X.1.2.2.2.2 (lw_V q2595 q2596 q2597 q138 q2598) rfl rfl rfl (by decide +kernel) ⟨(Nat.le_of_ble_eq_true rfl), (Nat.le_of_ble_eq_true rfl)⟩) g5 rfl rfl hl.1 rfl (by simp [va_rf_cat, jcI, jcA, jcJ, jcD, jcF]) dX0_gainOf_5 (fun v5 S5 h5 => ?_) (fun k5 q5 S5 h5 => ?_)
  · refine J.geq (g2 := F0 m 8 ls [.int v5, .int 0, va_rf a3]) rfl ?_
    refine J.pu (fun _ _ _ _ k => lv_i2l (v := v5.toInt64) X.1.1 X.1.2.1 dX0_gainOf_8 rfl k) ?_
    refine J.sJ' X dX0_gainOf_9 (fun S9 h9 => ?_)
    refine J.pu (fun _ _ _ _ k => lv_goto (tgt := 21) X.1.1 X.1.2.1 dX0_gainOf_10 (by decide) k) ?_
    refine J.pu (fun _ _ _ _ k => lv_iconst (v := 0) X.1.1 X.1.2.1 dX0_gainOf_21 (by decide) k) ?_
    exact J.iret (vr := fun t : Int32 × jH => jrI t.1) (fin := Prod.snd) (t := t) X hr (by rfl) (by rfl) dX0_gainOf_22
  · refine Jx.ite (fun k5_0 => ?_) (fun k5_0 => ?_)
    · refine Jx.catch_ (E := "java/lang/IllegalArgumentException") (nm := "java/lang/IllegalArgumentException") X k5_0 rfl [(⟨0, 10, 13, 22⟩ : ExceptionTableEntry)] (⟨0, 10, 17, 13⟩ : ExceptionTableEntry) [] (htab.trans rfl) (List.forall_mem_cons.mpr ⟨(Or.inr ⟨by decide, "java/lang/IndexOutOfBoundsException", q2420, List.mem_of_getElem? (i := 0) rfl⟩), jnil_all⟩) rfl (by decide) q2385 jnc0 ?_
      refine J.astore (r := (some q5)) (lv' := [(4, va_rf (some q5)), (0, va_rf a0), (1, .int a1), (2, .int a2), (3, va_rf a3)]) X.1.1 X.1.2.1 dX0_gainOf_17 hl (by decide) (by first | rfl | simp [va_rf_cat, jcI, jcA, jcJ, jcD, jcF]) (fun ls hl => ?_)
      refine J.pu (fun _ _ _ _ k => lv_iconst (v := 2) X.1.1 X.1.2.1 dX0_gainOf_19 (by decide) k) ?_
      exact J.iret (vr := fun t : Int32 × jH => jrI t.1) (fin := Prod.snd) (t := t) X hr (by rfl) (by rfl) dX0_gainOf_20
    refine Jx.ite (fun k5_2 => ?_) (fun k5_2 => ?_)
    · refine Jx.catch_ (E := "java/lang/IndexOutOfBoundsException") (nm := "java/lang/IndexOutOfBoundsException") X k5_2 rfl [] (⟨0, 10, 13, 22⟩ : ExceptionTableEntry) [(⟨0, 10, 17, 13⟩ : ExceptionTableEntry)] (htab.trans rfl) jnil_all rfl (by decide) q2420 jnc4 ?_
      refine J.astore (r := (some q5)) (lv' := [(4, va_rf (some q5)), (0, va_rf a0), (1, .int a1), (2, .int a2), (3, va_rf a3)]) X.1.1 X.1.2.1 dX0_gainOf_13 hl (by decide) (by first | rfl | simp [va_rf_cat, jcI, jcA, jcJ, jcD, jcF]) (fun ls hl => ?_)
      refine J.pu (fun _ _ _ _ k => lv_iconst (v := 1) X.1.1 X.1.2.1 dX0_gainOf_15 (by decide) k) ?_
      exact J.iret (vr := fun t : Int32 × jH => jrI t.1) (fin := Prod.snd) (t := t) X hr (by rfl) (by rfl) dX0_gainOf_16
    exact Jx.nil_
noncomputable def X1_playScript_b (G : jG) (n : Nat) (σ : jH) (this : Nat) : Option (Int32 × jH) :=
  (rc σ (some this) 0).bind fun o1 => bd (X1_startsText G n σ o1) fun v1 S1 => bd (nO S1 7 [.int 0, .int 0, .int 0, .int 0, .null, .null, .null, .null] 8) fun v5 S5 => bd (X10_init G n S5 v5 (some this)) fun v10 S10 => (rc S10 (some v5) 7).bind fun o13 => tc (X10_read G n S10 o13) (fun v13 S13 => (rc S13 (some this) 0).bind fun o16 => bd (X1_plays G n S13 o16 v13) fun v16 S16 => (pI G S16 (some this) 0 1 0).bind fun S22 => some (v16, S22)) (fun k13 q13 S13 => if k13 = 4 then ((rc S13 (some this) 0).bind fun o30 => bd (X1_fails G n S13 o30 (some q13)) fun v30 S30 => (pI G S30 (some this) 0 1 0).bind fun S36 => some (v30, S36)) else none)
noncomputable def X1_playScript (G : jG) (n : Nat) (σ : jH) (this : Nat) : Option (Int32 × jH) := jck σ (X1_playScript_b G n σ this)
set_option maxHeartbeats 4000000 in
set_option maxRecDepth 100000 in
theorem ct_X1_playScript (l : Launch) (hfl : l.stackTraces = false) (G : jG) (n : Nat) (σ : jH) (this : Nat) : jCt l G yX1_playScript (wsW_ yX1_playScript cX1_playScript 4 (some .int) [(4, 20, 27, 99), (4, 20, 41, 0), (27, 34, 41, 0)]) 29 1402 jrI [.ref this] σ (X1_playScript G n σ this) := by
  refine jCt.wrH (hh := [(4, 20, 27, 99), (4, 20, 41, 0), (27, 34, 41, 0)]) (lv := [(0, .ref this)]) (plainFor_of_name (by decide)) (Nat.le_of_ble_eq_true rfl) rfl ?_
  intro t p e s m args below meth c ls X hr hnm htab hl
  have X : jCx p c cX1_playScript 4 s m args RX1 G meth := X
  unfold X1_playScript_b
  refine J.pu (fun _ _ _ _ k => lv_aload_n X.1.1 X.1.2.1 dX1_playScript_0 rfl (lv_at hl 0 rfl) k) ?_
  refine J.bind (fun o1 g1 => ?_)
  refine J.bd' (fun v1 S1 h1 => ?_)
  refine J.cV (q := (RX1, TX1, 9)) (ci := 0) (As := []) (rest := []) (s2 := []) X ⟨rfl, rfl⟩ (ct_X1_startsText l G n σ o1) h1 (fun _ _ => cwV 0 X.1.2.2.2.2 (lw_V q1373 q1375 qs14 q138 q1376) rfl rfl rfl (by decide +kernel) ⟨(Nat.le_of_ble_eq_true rfl), (Nat.le_of_ble_eq_true rfl)⟩) g1 rfl rfl hl.1 rfl rfl (Nat.le_of_ble_eq_true rfl) dX1_playScript_1 ?_
  refine J.pu (fun _ _ _ _ k => lv_aload_n X.1.1 X.1.2.1 dX1_playScript_4 rfl (lv_at hl 0 rfl) k) ?_
  refine J.nO' (fs := [.int 0, .int 0, .int 0, .int 0, .null, .null, .null, .null]) X ⟨rfl, rfl⟩ in_X10 (show jCl[7]? = some (RX10, TX10, 8) from rfl) tyX10 tyX10_ok q1760 q1761 q182 rfl dX1_playScript_5 (fun v5 S5 h5 => ?_)
  refine J.pu (fun _ _ _ _ k => lv_dup X.1.1 X.1.2.1 dX1_playScript_8 rfl k) ?_
  refine J.pu (fun _ _ _ _ k => lv_aload_n X.1.1 X.1.2.1 dX1_playScript_9 rfl (lv_at hl 0 rfl) k) ?_
  refine J.bd' (fun v10 S10 h10 => ?_)
  refine J.cIN (a := v5) (As := [.ref this]) (rest := [.ref v5, .ref this]) (s2 := [.ref v5, .ref this]) X ⟨rfl, rfl⟩ (ct_X10_init l G n S5 v5 (some this)) h10 (fun _ _ => ⟨va_cnB 1 X.1.2.2.2.2 (lw_meth q1764) rfl rfl rfl (jnm3 X.2.1) (X.1.2.2.2.2 _ q182) (by decide +kernel) ⟨(Nat.le_of_ble_eq_true rfl), (Nat.le_of_ble_eq_true rfl)⟩, rfl, X.1.2.2.2.2 _ q1763⟩) rfl hl.1 rfl rfl (Nat.le_of_ble_eq_true rfl) dX1_playScript_10 ?_
  refine J.bind (fun o13 g13 => ?_)
  refine J.hV (q := (RX10, TX10, 8)) (ci := 7) (As := []) (rest := [.ref this]) X ⟨rfl, rfl⟩ (ct_X10_read l hfl G n S10 o13) (fun _ _ => cwV 0 X.1.2.2.2.2 (lw_V q1781 q1782 q1783 q182 q1784) rfl rfl rfl (by decide +kernel) ⟨(Nat.le_of_ble_eq_true rfl), (Nat.le_of_ble_eq_true rfl)⟩) g13 rfl rfl hl.1 rfl (Nat.le_of_ble_eq_true rfl) dX1_playScript_13 (fun v13 S13 h13 => ?_) (fun k13 q13 S13 h13 => ?_)
  · refine J.geq (g2 := F0 m 16 ls [va_rf v13, .ref this]) rfl ?_
    refine J.bind (fun o16 g16 => ?_)
    refine J.bd' (fun v16 S16 h16 => ?_)
    refine J.cV (q := (RX1, TX1, 9)) (ci := 0) (As := [va_rf v13]) (rest := []) (s2 := [.int v16]) X ⟨rfl, rfl⟩ (ct_X1_plays l G n S13 o16 v13) h16 (fun _ _ => cwV 1 X.1.2.2.2.2 (lw_V q1898 q1900 qs28 q138 q1901) rfl rfl rfl (by decide +kernel) ⟨(Nat.le_of_ble_eq_true rfl), (Nat.le_of_ble_eq_true rfl)⟩) g16 rfl rfl hl.1 rfl rfl (Nat.le_of_ble_eq_true rfl) dX1_playScript_16 ?_
    refine J.istore_n (i := 1) (lv' := [(1, .int v16), (0, .ref this)]) X.1.1 X.1.2.1 dX1_playScript_19 rfl hl (by decide) (by first | rfl | simp [va_rf_cat, jcI, jcA, jcJ, jcD, jcF]) (fun ls hl => ?_)
    refine J.pu (fun _ _ _ _ k => lv_aload_n X.1.1 X.1.2.1 dX1_playScript_20 rfl (lv_at hl 1 rfl) k) ?_
    refine J.pu (fun _ _ _ _ k => lv_iconst (v := 0) X.1.1 X.1.2.1 dX1_playScript_21 (by decide) k) ?_
    refine J.putI (k := 1) (ci := 0) X in_X1 (show jCl[0]? = some (RX1, TX1, 9) from rfl) tyX1_ok (fun a ha b hb h => Or.inl (nmX1 a ha b hb h)) (by decide) q1325 (fun _ h => h) rfl rfl dX1_playScript_22 (fun S22 h22 => ?_)
    refine J.pu (fun _ _ _ _ k => lv_iload_n X.1.1 X.1.2.1 dX1_playScript_25 rfl (lv_at hl 0 rfl) k) ?_
    exact J.iret (vr := fun t : Int32 × jH => jrI t.1) (fin := Prod.snd) (t := t) X hr (by rfl) (by rfl) dX1_playScript_26
  · refine Jx.ite (fun k13_4 => ?_) (fun k13_4 => ?_)
    · refine Jx.catch_ (E := "SortingLoop$ParseException") (nm := "SortingLoop$ParseException") X k13_4 rfl [] (⟨4, 20, 27, 99⟩ : ExceptionTableEntry) [(⟨4, 20, 41, 0⟩ : ExceptionTableEntry), (⟨27, 34, 41, 0⟩ : ExceptionTableEntry)] (htab.trans rfl) jnil_all rfl (by decide) q1372 jnc11 ?_
      refine J.astore_n (r := (some q13)) (i := 1) (lv' := [(1, va_rf (some q13)), (0, .ref this)]) X.1.1 X.1.2.1 dX1_playScript_27 rfl hl (by decide) (by first | rfl | simp [va_rf_cat, jcI, jcA, jcJ, jcD, jcF]) (fun ls hl => ?_)
      refine J.pu (fun _ _ _ _ k => lv_aload_n X.1.1 X.1.2.1 dX1_playScript_28 rfl (lv_at hl 1 rfl) k) ?_
      refine J.pu (fun _ _ _ _ k => W.rload_n X.1.1 X.1.2.1 dX1_playScript_29 rfl (lv_at hl 0 rfl) k) ?_
      refine J.bind (fun o30 g30 => ?_)
      refine J.bd' (fun v30 S30 h30 => ?_)
      refine J.cV (q := (RX1, TX1, 9)) (ci := 0) (As := [va_rf (some q13)]) (rest := []) (s2 := [.int v30]) X ⟨rfl, rfl⟩ (ct_X1_fails l G n S13 o30 (some q13)) h30 (fun _ _ => cwV 1 X.1.2.2.2.2 (lw_V q1752 q1754 qs22 q138 q1755) rfl rfl rfl (by decide +kernel) ⟨(Nat.le_of_ble_eq_true rfl), (Nat.le_of_ble_eq_true rfl)⟩) g30 rfl rfl hl.1 rfl rfl (Nat.le_of_ble_eq_true rfl) dX1_playScript_30 ?_
      refine J.istore_n (i := 2) (lv' := [(2, .int v30), (1, va_rf (some q13)), (0, .ref this)]) X.1.1 X.1.2.1 dX1_playScript_33 rfl hl (by decide) (by first | rfl | simp [va_rf_cat, jcI, jcA, jcJ, jcD, jcF]) (fun ls hl => ?_)
      refine J.pu (fun _ _ _ _ k => lv_aload_n X.1.1 X.1.2.1 dX1_playScript_34 rfl (lv_at hl 2 rfl) k) ?_
      refine J.pu (fun _ _ _ _ k => lv_iconst (v := 0) X.1.1 X.1.2.1 dX1_playScript_35 (by decide) k) ?_
      refine J.putI (k := 1) (ci := 0) X in_X1 (show jCl[0]? = some (RX1, TX1, 9) from rfl) tyX1_ok (fun a ha b hb h => Or.inl (nmX1 a ha b hb h)) (by decide) q1325 (fun _ h => h) rfl rfl dX1_playScript_36 (fun S36 h36 => ?_)
      refine J.pu (fun _ _ _ _ k => lv_iload_n X.1.1 X.1.2.1 dX1_playScript_39 rfl (lv_at hl 0 rfl) k) ?_
      exact J.iret (vr := fun t : Int32 × jH => jrI t.1) (fin := Prod.snd) (t := t) X hr (by rfl) (by rfl) dX1_playScript_40
    exact Jx.nil_
